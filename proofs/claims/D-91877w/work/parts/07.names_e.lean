/-! CrossingWordsModel -/
set_option maxRecDepth 100000
def RX2 : String := "CrossingWordsModel"
def TX2 : u_T := fun k => match k with
  | 0 => ("CrossingWordsModel", "cases", "[I", true)
  | 1 => ("CrossingWordsModel", "laws", "[I", true)
  | 2 => ("CrossingWordsModel", "clauses", "[I", true)
  | 3 => ("CrossingWordsModel", "many", "[I", true)
  | 4 => ("CrossingWordsModel", "what", "[I", true)
  | 5 => ("CrossingWordsModel", "hand", "[I", true)
  | 6 => ("CrossingWordsModel", "whom", "[I", true)
  | 7 => ("CrossingWordsModel", "said", "[I", true)
  | 8 => ("CrossingWordsModel", "way", "[I", true)
  | 9 => ("CrossingWordsModel", "hold", "[I", true)
  | 10 => ("CrossingWordsModel", "given", "[I", true)
  | 11 => ("CrossingWordsModel", "loss", "[I", true)
  | 12 => ("CrossingWordsModel", "word", "[I", true)
  | 13 => ("CrossingWordsModel", "low", "[I", true)
  | 14 => ("CrossingWordsModel", "high", "[I", true)
  | 15 => ("CrossingWordsModel", "rule", "[I", true)
  | 16 => ("CrossingWordsModel", "tape", "[B", true)
  | 17 => ("CrossingWordsModel", "taped", "I", false)
  | 18 => ("CrossingWordsModel", "faultAt", "I", false)
  | 19 => ("CrossingWordsModel", "limit", "I", false)
  | 20 => ("CrossingWordsModel", "point", "I", false)
  | 21 => ("CrossingWordsModel", "from", "I", false)
  | 22 => ("CrossingWordsModel", "token", "I", false)
  | 23 => ("CrossingWordsModel", "value", "I", false)
  | 24 => ("CrossingWordsModel", "text", "J", false)
  | 25 => ("CrossingWordsModel", "isWrong", "Z", false)
  | 26 => ("CrossingWordsModel", "rules", "[I", true)
  | 27 => ("CrossingWordsModel", "n", "I", false)
  | 28 => ("CrossingWordsModel", "asked0", "I", false)
  | 29 => ("CrossingWordsModel", "combos", "I", false)
  | 30 => ("CrossingWordsModel", "wWhat", "[I", true)
  | 31 => ("CrossingWordsModel", "wWay", "[I", true)
  | 32 => ("CrossingWordsModel", "wLoss", "[I", true)
  | 33 => ("CrossingWordsModel", "wHold", "[I", true)
  | 34 => ("CrossingWordsModel", "wSaid", "[I", true)
  | 35 => ("CrossingWordsModel", "wHand", "[I", true)
  | 36 => ("CrossingWordsModel", "wWhom", "[I", true)
  | 37 => ("CrossingWordsModel", "isBarred", "[Z", true)
  | 38 => ("CrossingWordsModel", "wWord", "[I", true)
  | 39 => ("CrossingWordsModel", "wLow", "[I", true)
  | 40 => ("CrossingWordsModel", "wHigh", "[I", true)
  | 41 => ("CrossingWordsModel", "askedOf", "[I", true)
  | 42 => ("CrossingWordsModel", "radix", "[I", true)
  | 43 => ("CrossingWordsModel", "sent", "[I", true)
  | 44 => ("CrossingWordsModel", "comes", "[I", true)
  | 45 => ("CrossingWordsModel", "isRead", "[I", true)
  | 46 => ("CrossingWordsModel", "pick", "[I", true)
  | 47 => ("CrossingWordsModel", "opens", "[I", true)
  | 48 => ("CrossingWordsModel", "endsAt", "[I", true)
  | 49 => ("CrossingWordsModel", "why", "[I", true)
  | 50 => ("CrossingWordsModel", "has", "Z", false)
  | 51 => ("CrossingWordsModel", "byYes", "I", false)
  | 52 => ("CrossingWordsModel", "byOffer", "I", false)
  | 53 => ("CrossingWordsModel", "atHour", "I", false)
  | 54 => ("CrossingWordsModel", "isSure", "[Z", true)
  | 55 => ("CrossingWordsModel", "isNeeded", "[Z", true)
  | 56 => ("CrossingWordsModel", "hasBy", "[Z", true)
  | 57 => ("CrossingWordsModel", "met", "[I", true)
  | 58 => ("CrossingWordsModel", "firstYes", "[I", true)
  | 59 => ("CrossingWordsModel", "firstWords", "[I", true)
  | 60 => ("CrossingWordsModel", "apartCount", "I", false)
  | 61 => ("CrossingWordsModel", "apartFirst", "I", false)
  | _ => ("CrossingWordsModel", "images", "I", false)
def tyX2 : Nat → FieldType := fun k => match k with
  | 0 => .array .int
  | 1 => .array .int
  | 2 => .array .int
  | 3 => .array .int
  | 4 => .array .int
  | 5 => .array .int
  | 6 => .array .int
  | 7 => .array .int
  | 8 => .array .int
  | 9 => .array .int
  | 10 => .array .int
  | 11 => .array .int
  | 12 => .array .int
  | 13 => .array .int
  | 14 => .array .int
  | 15 => .array .int
  | 16 => .array .byte
  | 17 => .int
  | 18 => .int
  | 19 => .int
  | 20 => .int
  | 21 => .int
  | 22 => .int
  | 23 => .int
  | 24 => .long
  | 25 => .boolean
  | 26 => .array .int
  | 27 => .int
  | 28 => .int
  | 29 => .int
  | 30 => .array .int
  | 31 => .array .int
  | 32 => .array .int
  | 33 => .array .int
  | 34 => .array .int
  | 35 => .array .int
  | 36 => .array .int
  | 37 => .array .boolean
  | 38 => .array .int
  | 39 => .array .int
  | 40 => .array .int
  | 41 => .array .int
  | 42 => .array .int
  | 43 => .array .int
  | 44 => .array .int
  | 45 => .array .int
  | 46 => .array .int
  | 47 => .array .int
  | 48 => .array .int
  | 49 => .array .int
  | 50 => .boolean
  | 51 => .int
  | 52 => .int
  | 53 => .int
  | 54 => .array .boolean
  | 55 => .array .boolean
  | 56 => .array .boolean
  | 57 => .array .int
  | 58 => .array .int
  | 59 => .array .int
  | 60 => .int
  | 61 => .int
  | _ => .int
abbrev wsX20 : List Cond := u_ws RX2 TX2 63
set_option maxRecDepth 100000 in
theorem nmX2 : ∀ a, a < 63 → ∀ b, b < 63 → a ≠ b → (TX2 a).2.1 ≠ (TX2 b).2.1 := by decide +kernel
set_option maxRecDepth 100000 in
theorem tyX2_ok : ∀ k, k < 63 → parseFieldDescriptor (TX2 k).2.2.1 = some (tyX2 k) := by decide +kernel
abbrev cX2_init : ByteArray := prog_23_method_1_code
def yX2_init : MethodName := ⟨RX2, "<init>", "()V"⟩
def dkwX2_init_15 : List UInt8 := [188, 10, 181, 0, 139, 42, 17, 4, 0, 188, 10, 181, 0, 142, 42, 17, 20, 0, 188, 10, 181, 0, 145, 177]
abbrev dktX2_init_15 : List UInt8 := dkwX2_init_15 ++ []
def dkwX2_init_14 : List UInt8 := [181, 0, 130, 42, 16, 16, 188, 4, 181, 0, 133, 42, 17, 4, 0, 188, 4, 181, 0, 136, 42, 17, 4, 0]
abbrev dktX2_init_14 : List UInt8 := dkwX2_init_14 ++ dktX2_init_15
def dkwX2_init_13 : List UInt8 := [181, 0, 121, 42, 16, 12, 188, 10, 181, 0, 124, 42, 16, 12, 188, 10, 181, 0, 127, 42, 16, 16, 188, 4]
abbrev dktX2_init_13 : List UInt8 := dkwX2_init_13 ++ dktX2_init_14
def dkwX2_init_12 : List UInt8 := [181, 0, 112, 42, 16, 12, 188, 10, 181, 0, 115, 42, 16, 48, 188, 10, 181, 0, 118, 42, 16, 12, 188, 10]
abbrev dktX2_init_12 : List UInt8 := dkwX2_init_12 ++ dktX2_init_13
def dkwX2_init_11 : List UInt8 := [181, 0, 103, 42, 16, 48, 188, 10, 181, 0, 106, 42, 16, 12, 188, 10, 181, 0, 109, 42, 16, 12, 188, 10]
abbrev dktX2_init_11 : List UInt8 := dkwX2_init_11 ++ dktX2_init_12
def dkwX2_init_10 : List UInt8 := [181, 0, 94, 42, 16, 36, 188, 10, 181, 0, 97, 42, 16, 36, 188, 10, 181, 0, 100, 42, 16, 48, 188, 10]
abbrev dktX2_init_10 : List UInt8 := dkwX2_init_10 ++ dktX2_init_11
def dkwX2_init_9 : List UInt8 := [181, 0, 84, 42, 16, 12, 188, 10, 181, 0, 87, 42, 16, 12, 188, 4, 181, 0, 90, 42, 16, 60, 188, 10]
abbrev dktX2_init_9 : List UInt8 := dkwX2_init_9 ++ dktX2_init_10
def dkwX2_init_8 : List UInt8 := [181, 0, 75, 42, 16, 12, 188, 10, 181, 0, 78, 42, 16, 12, 188, 10, 181, 0, 81, 42, 16, 12, 188, 10]
abbrev dktX2_init_8 : List UInt8 := dkwX2_init_8 ++ dktX2_init_9
def dkwX2_init_7 : List UInt8 := [181, 0, 66, 42, 16, 12, 188, 10, 181, 0, 69, 42, 16, 12, 188, 10, 181, 0, 72, 42, 16, 12, 188, 10]
abbrev dktX2_init_7 : List UInt8 := dkwX2_init_7 ++ dktX2_init_8
def dkwX2_init_6 : List UInt8 := [181, 0, 55, 42, 17, 3, 132, 188, 8, 181, 0, 58, 42, 2, 181, 0, 62, 42, 16, 13, 188, 10]
abbrev dktX2_init_6 : List UInt8 := dkwX2_init_6 ++ dktX2_init_7
def dkwX2_init_5 : List UInt8 := [17, 11, 64, 188, 10, 181, 0, 49, 42, 17, 11, 64, 188, 10, 181, 0, 52, 42, 17, 3, 212, 188, 10]
abbrev dktX2_init_5 : List UInt8 := dkwX2_init_5 ++ dktX2_init_6
def dkwX2_init_4 : List UInt8 := [181, 0, 40, 42, 17, 3, 192, 188, 10, 181, 0, 43, 42, 17, 18, 192, 188, 10, 181, 0, 46, 42]
abbrev dktX2_init_4 : List UInt8 := dkwX2_init_4 ++ dktX2_init_5
def dkwX2_init_3 : List UInt8 := [17, 3, 192, 188, 10, 181, 0, 34, 42, 17, 3, 192, 188, 10, 181, 0, 37, 42, 17, 3, 192, 188, 10]
abbrev dktX2_init_3 : List UInt8 := dkwX2_init_3 ++ dktX2_init_4
def dkwX2_init_2 : List UInt8 := [188, 10, 181, 0, 25, 42, 17, 3, 192, 188, 10, 181, 0, 28, 42, 17, 3, 192, 188, 10, 181, 0, 31, 42]
abbrev dktX2_init_2 : List UInt8 := dkwX2_init_2 ++ dktX2_init_3
def dkwX2_init_1 : List UInt8 := [181, 0, 16, 42, 16, 80, 188, 10, 181, 0, 19, 42, 17, 3, 192, 188, 10, 181, 0, 22, 42, 17, 3, 192]
abbrev dktX2_init_1 : List UInt8 := dkwX2_init_1 ++ dktX2_init_2
def dkwX2_init_0 : List UInt8 := [42, 183, 0, 1, 42, 8, 188, 10, 181, 0, 7, 42, 8, 188, 10, 181, 0, 13, 42, 8, 188, 10]
abbrev dktX2_init_0 : List UInt8 := dkwX2_init_0 ++ dktX2_init_1
theorem dksX2_init_0 : cX2_init.data.toList.drop 0 = dktX2_init_0 := by decide +kernel
theorem dksX2_init_1 : cX2_init.data.toList.drop 22 = dktX2_init_1 := dk_seg dksX2_init_0 22 rfl rfl
theorem dksX2_init_2 : cX2_init.data.toList.drop 46 = dktX2_init_2 := dk_seg dksX2_init_1 24 rfl rfl
theorem dksX2_init_3 : cX2_init.data.toList.drop 70 = dktX2_init_3 := dk_seg dksX2_init_2 24 rfl rfl
theorem dksX2_init_4 : cX2_init.data.toList.drop 93 = dktX2_init_4 := dk_seg dksX2_init_3 23 rfl rfl
theorem dksX2_init_5 : cX2_init.data.toList.drop 115 = dktX2_init_5 := dk_seg dksX2_init_4 22 rfl rfl
theorem dksX2_init_6 : cX2_init.data.toList.drop 138 = dktX2_init_6 := dk_seg dksX2_init_5 23 rfl rfl
theorem dksX2_init_7 : cX2_init.data.toList.drop 160 = dktX2_init_7 := dk_seg dksX2_init_6 22 rfl rfl
theorem dksX2_init_8 : cX2_init.data.toList.drop 184 = dktX2_init_8 := dk_seg dksX2_init_7 24 rfl rfl
theorem dksX2_init_9 : cX2_init.data.toList.drop 208 = dktX2_init_9 := dk_seg dksX2_init_8 24 rfl rfl
theorem dksX2_init_10 : cX2_init.data.toList.drop 232 = dktX2_init_10 := dk_seg dksX2_init_9 24 rfl rfl
theorem dksX2_init_11 : cX2_init.data.toList.drop 256 = dktX2_init_11 := dk_seg dksX2_init_10 24 rfl rfl
theorem dksX2_init_12 : cX2_init.data.toList.drop 280 = dktX2_init_12 := dk_seg dksX2_init_11 24 rfl rfl
theorem dksX2_init_13 : cX2_init.data.toList.drop 304 = dktX2_init_13 := dk_seg dksX2_init_12 24 rfl rfl
theorem dksX2_init_14 : cX2_init.data.toList.drop 328 = dktX2_init_14 := dk_seg dksX2_init_13 24 rfl rfl
theorem dksX2_init_15 : cX2_init.data.toList.drop 352 = dktX2_init_15 := dk_seg dksX2_init_14 24 rfl rfl
theorem dX2_init_0 : decode cX2_init 0 = .ok (.aload_n 0, 1) := dk_42 (dk_at dksX2_init_0 0 rfl rfl)
theorem dX2_init_1 : decode cX2_init 1 = .ok (.invokespecial 1, 3) := dk_183 0 1 (dk_at dksX2_init_0 1 rfl rfl)
theorem dX2_init_4 : decode cX2_init 4 = .ok (.aload_n 0, 1) := dk_42 (dk_at dksX2_init_0 4 rfl rfl)
theorem dX2_init_5 : decode cX2_init 5 = .ok (.iconst 5, 1) := dk_8 (dk_at dksX2_init_0 5 rfl rfl)
theorem dX2_init_6 : decode cX2_init 6 = .ok (.newarray .int, 2) := dk_188_10 (dk_at dksX2_init_0 6 rfl rfl)
theorem dX2_init_8 : decode cX2_init 8 = .ok (.putfield 7, 3) := dk_181 0 7 (dk_at dksX2_init_0 8 rfl rfl)
theorem dX2_init_11 : decode cX2_init 11 = .ok (.aload_n 0, 1) := dk_42 (dk_at dksX2_init_0 11 rfl rfl)
theorem dX2_init_12 : decode cX2_init 12 = .ok (.iconst 5, 1) := dk_8 (dk_at dksX2_init_0 12 rfl rfl)
theorem dX2_init_13 : decode cX2_init 13 = .ok (.newarray .int, 2) := dk_188_10 (dk_at dksX2_init_0 13 rfl rfl)
theorem dX2_init_15 : decode cX2_init 15 = .ok (.putfield 13, 3) := dk_181 0 13 (dk_at dksX2_init_0 15 rfl rfl)
theorem dX2_init_18 : decode cX2_init 18 = .ok (.aload_n 0, 1) := dk_42 (dk_at dksX2_init_0 18 rfl rfl)
theorem dX2_init_19 : decode cX2_init 19 = .ok (.iconst 5, 1) := dk_8 (dk_at dksX2_init_0 19 rfl rfl)
theorem dX2_init_20 : decode cX2_init 20 = .ok (.newarray .int, 2) := dk_188_10 (dk_at dksX2_init_0 20 rfl rfl)
theorem dX2_init_22 : decode cX2_init 22 = .ok (.putfield 16, 3) := dk_181 0 16 (dk_at dksX2_init_1 0 rfl rfl)
theorem dX2_init_25 : decode cX2_init 25 = .ok (.aload_n 0, 1) := dk_42 (dk_at dksX2_init_1 3 rfl rfl)
theorem dX2_init_26 : decode cX2_init 26 = .ok (.bipush 80, 2) := dk_16 80 (dk_at dksX2_init_1 4 rfl rfl)
theorem dX2_init_28 : decode cX2_init 28 = .ok (.newarray .int, 2) := dk_188_10 (dk_at dksX2_init_1 6 rfl rfl)
theorem dX2_init_30 : decode cX2_init 30 = .ok (.putfield 19, 3) := dk_181 0 19 (dk_at dksX2_init_1 8 rfl rfl)
theorem dX2_init_33 : decode cX2_init 33 = .ok (.aload_n 0, 1) := dk_42 (dk_at dksX2_init_1 11 rfl rfl)
theorem dX2_init_34 : decode cX2_init 34 = .ok (.sipush 960, 3) := dk_17 3 192 (dk_at dksX2_init_1 12 rfl rfl)
theorem dX2_init_37 : decode cX2_init 37 = .ok (.newarray .int, 2) := dk_188_10 (dk_at dksX2_init_1 15 rfl rfl)
theorem dX2_init_39 : decode cX2_init 39 = .ok (.putfield 22, 3) := dk_181 0 22 (dk_at dksX2_init_1 17 rfl rfl)
theorem dX2_init_42 : decode cX2_init 42 = .ok (.aload_n 0, 1) := dk_42 (dk_at dksX2_init_1 20 rfl rfl)
theorem dX2_init_43 : decode cX2_init 43 = .ok (.sipush 960, 3) := dk_17 3 192 (dk_at dksX2_init_1 21 rfl rfl)
theorem dX2_init_46 : decode cX2_init 46 = .ok (.newarray .int, 2) := dk_188_10 (dk_at dksX2_init_2 0 rfl rfl)
theorem dX2_init_48 : decode cX2_init 48 = .ok (.putfield 25, 3) := dk_181 0 25 (dk_at dksX2_init_2 2 rfl rfl)
theorem dX2_init_51 : decode cX2_init 51 = .ok (.aload_n 0, 1) := dk_42 (dk_at dksX2_init_2 5 rfl rfl)
theorem dX2_init_52 : decode cX2_init 52 = .ok (.sipush 960, 3) := dk_17 3 192 (dk_at dksX2_init_2 6 rfl rfl)
theorem dX2_init_55 : decode cX2_init 55 = .ok (.newarray .int, 2) := dk_188_10 (dk_at dksX2_init_2 9 rfl rfl)
theorem dX2_init_57 : decode cX2_init 57 = .ok (.putfield 28, 3) := dk_181 0 28 (dk_at dksX2_init_2 11 rfl rfl)
theorem dX2_init_60 : decode cX2_init 60 = .ok (.aload_n 0, 1) := dk_42 (dk_at dksX2_init_2 14 rfl rfl)
theorem dX2_init_61 : decode cX2_init 61 = .ok (.sipush 960, 3) := dk_17 3 192 (dk_at dksX2_init_2 15 rfl rfl)
theorem dX2_init_64 : decode cX2_init 64 = .ok (.newarray .int, 2) := dk_188_10 (dk_at dksX2_init_2 18 rfl rfl)
theorem dX2_init_66 : decode cX2_init 66 = .ok (.putfield 31, 3) := dk_181 0 31 (dk_at dksX2_init_2 20 rfl rfl)
theorem dX2_init_69 : decode cX2_init 69 = .ok (.aload_n 0, 1) := dk_42 (dk_at dksX2_init_2 23 rfl rfl)
theorem dX2_init_70 : decode cX2_init 70 = .ok (.sipush 960, 3) := dk_17 3 192 (dk_at dksX2_init_3 0 rfl rfl)
theorem dX2_init_73 : decode cX2_init 73 = .ok (.newarray .int, 2) := dk_188_10 (dk_at dksX2_init_3 3 rfl rfl)
theorem dX2_init_75 : decode cX2_init 75 = .ok (.putfield 34, 3) := dk_181 0 34 (dk_at dksX2_init_3 5 rfl rfl)
theorem dX2_init_78 : decode cX2_init 78 = .ok (.aload_n 0, 1) := dk_42 (dk_at dksX2_init_3 8 rfl rfl)
theorem dX2_init_79 : decode cX2_init 79 = .ok (.sipush 960, 3) := dk_17 3 192 (dk_at dksX2_init_3 9 rfl rfl)
theorem dX2_init_82 : decode cX2_init 82 = .ok (.newarray .int, 2) := dk_188_10 (dk_at dksX2_init_3 12 rfl rfl)
theorem dX2_init_84 : decode cX2_init 84 = .ok (.putfield 37, 3) := dk_181 0 37 (dk_at dksX2_init_3 14 rfl rfl)
theorem dX2_init_87 : decode cX2_init 87 = .ok (.aload_n 0, 1) := dk_42 (dk_at dksX2_init_3 17 rfl rfl)
theorem dX2_init_88 : decode cX2_init 88 = .ok (.sipush 960, 3) := dk_17 3 192 (dk_at dksX2_init_3 18 rfl rfl)
theorem dX2_init_91 : decode cX2_init 91 = .ok (.newarray .int, 2) := dk_188_10 (dk_at dksX2_init_3 21 rfl rfl)
theorem dX2_init_93 : decode cX2_init 93 = .ok (.putfield 40, 3) := dk_181 0 40 (dk_at dksX2_init_4 0 rfl rfl)
theorem dX2_init_96 : decode cX2_init 96 = .ok (.aload_n 0, 1) := dk_42 (dk_at dksX2_init_4 3 rfl rfl)
theorem dX2_init_97 : decode cX2_init 97 = .ok (.sipush 960, 3) := dk_17 3 192 (dk_at dksX2_init_4 4 rfl rfl)
theorem dX2_init_100 : decode cX2_init 100 = .ok (.newarray .int, 2) := dk_188_10 (dk_at dksX2_init_4 7 rfl rfl)
theorem dX2_init_102 : decode cX2_init 102 = .ok (.putfield 43, 3) := dk_181 0 43 (dk_at dksX2_init_4 9 rfl rfl)
theorem dX2_init_105 : decode cX2_init 105 = .ok (.aload_n 0, 1) := dk_42 (dk_at dksX2_init_4 12 rfl rfl)
theorem dX2_init_106 : decode cX2_init 106 = .ok (.sipush 4800, 3) := dk_17 18 192 (dk_at dksX2_init_4 13 rfl rfl)
theorem dX2_init_109 : decode cX2_init 109 = .ok (.newarray .int, 2) := dk_188_10 (dk_at dksX2_init_4 16 rfl rfl)
theorem dX2_init_111 : decode cX2_init 111 = .ok (.putfield 46, 3) := dk_181 0 46 (dk_at dksX2_init_4 18 rfl rfl)
theorem dX2_init_114 : decode cX2_init 114 = .ok (.aload_n 0, 1) := dk_42 (dk_at dksX2_init_4 21 rfl rfl)
theorem dX2_init_115 : decode cX2_init 115 = .ok (.sipush 2880, 3) := dk_17 11 64 (dk_at dksX2_init_5 0 rfl rfl)
theorem dX2_init_118 : decode cX2_init 118 = .ok (.newarray .int, 2) := dk_188_10 (dk_at dksX2_init_5 3 rfl rfl)
theorem dX2_init_120 : decode cX2_init 120 = .ok (.putfield 49, 3) := dk_181 0 49 (dk_at dksX2_init_5 5 rfl rfl)
theorem dX2_init_123 : decode cX2_init 123 = .ok (.aload_n 0, 1) := dk_42 (dk_at dksX2_init_5 8 rfl rfl)
theorem dX2_init_124 : decode cX2_init 124 = .ok (.sipush 2880, 3) := dk_17 11 64 (dk_at dksX2_init_5 9 rfl rfl)
theorem dX2_init_127 : decode cX2_init 127 = .ok (.newarray .int, 2) := dk_188_10 (dk_at dksX2_init_5 12 rfl rfl)
theorem dX2_init_129 : decode cX2_init 129 = .ok (.putfield 52, 3) := dk_181 0 52 (dk_at dksX2_init_5 14 rfl rfl)
theorem dX2_init_132 : decode cX2_init 132 = .ok (.aload_n 0, 1) := dk_42 (dk_at dksX2_init_5 17 rfl rfl)
theorem dX2_init_133 : decode cX2_init 133 = .ok (.sipush 980, 3) := dk_17 3 212 (dk_at dksX2_init_5 18 rfl rfl)
theorem dX2_init_136 : decode cX2_init 136 = .ok (.newarray .int, 2) := dk_188_10 (dk_at dksX2_init_5 21 rfl rfl)
theorem dX2_init_138 : decode cX2_init 138 = .ok (.putfield 55, 3) := dk_181 0 55 (dk_at dksX2_init_6 0 rfl rfl)
theorem dX2_init_141 : decode cX2_init 141 = .ok (.aload_n 0, 1) := dk_42 (dk_at dksX2_init_6 3 rfl rfl)
theorem dX2_init_142 : decode cX2_init 142 = .ok (.sipush 900, 3) := dk_17 3 132 (dk_at dksX2_init_6 4 rfl rfl)
theorem dX2_init_145 : decode cX2_init 145 = .ok (.newarray .byte, 2) := dk_188_8 (dk_at dksX2_init_6 7 rfl rfl)
theorem dX2_init_147 : decode cX2_init 147 = .ok (.putfield 58, 3) := dk_181 0 58 (dk_at dksX2_init_6 9 rfl rfl)
theorem dX2_init_150 : decode cX2_init 150 = .ok (.aload_n 0, 1) := dk_42 (dk_at dksX2_init_6 12 rfl rfl)
theorem dX2_init_151 : decode cX2_init 151 = .ok (.iconst (-1), 1) := dk_2 (dk_at dksX2_init_6 13 rfl rfl)
theorem dX2_init_152 : decode cX2_init 152 = .ok (.putfield 62, 3) := dk_181 0 62 (dk_at dksX2_init_6 14 rfl rfl)
theorem dX2_init_155 : decode cX2_init 155 = .ok (.aload_n 0, 1) := dk_42 (dk_at dksX2_init_6 17 rfl rfl)
theorem dX2_init_156 : decode cX2_init 156 = .ok (.bipush 13, 2) := dk_16 13 (dk_at dksX2_init_6 18 rfl rfl)
theorem dX2_init_158 : decode cX2_init 158 = .ok (.newarray .int, 2) := dk_188_10 (dk_at dksX2_init_6 20 rfl rfl)
theorem dX2_init_160 : decode cX2_init 160 = .ok (.putfield 66, 3) := dk_181 0 66 (dk_at dksX2_init_7 0 rfl rfl)
theorem dX2_init_163 : decode cX2_init 163 = .ok (.aload_n 0, 1) := dk_42 (dk_at dksX2_init_7 3 rfl rfl)
theorem dX2_init_164 : decode cX2_init 164 = .ok (.bipush 12, 2) := dk_16 12 (dk_at dksX2_init_7 4 rfl rfl)
theorem dX2_init_166 : decode cX2_init 166 = .ok (.newarray .int, 2) := dk_188_10 (dk_at dksX2_init_7 6 rfl rfl)
theorem dX2_init_168 : decode cX2_init 168 = .ok (.putfield 69, 3) := dk_181 0 69 (dk_at dksX2_init_7 8 rfl rfl)
theorem dX2_init_171 : decode cX2_init 171 = .ok (.aload_n 0, 1) := dk_42 (dk_at dksX2_init_7 11 rfl rfl)
theorem dX2_init_172 : decode cX2_init 172 = .ok (.bipush 12, 2) := dk_16 12 (dk_at dksX2_init_7 12 rfl rfl)
theorem dX2_init_174 : decode cX2_init 174 = .ok (.newarray .int, 2) := dk_188_10 (dk_at dksX2_init_7 14 rfl rfl)
theorem dX2_init_176 : decode cX2_init 176 = .ok (.putfield 72, 3) := dk_181 0 72 (dk_at dksX2_init_7 16 rfl rfl)
theorem dX2_init_179 : decode cX2_init 179 = .ok (.aload_n 0, 1) := dk_42 (dk_at dksX2_init_7 19 rfl rfl)
theorem dX2_init_180 : decode cX2_init 180 = .ok (.bipush 12, 2) := dk_16 12 (dk_at dksX2_init_7 20 rfl rfl)
theorem dX2_init_182 : decode cX2_init 182 = .ok (.newarray .int, 2) := dk_188_10 (dk_at dksX2_init_7 22 rfl rfl)
theorem dX2_init_184 : decode cX2_init 184 = .ok (.putfield 75, 3) := dk_181 0 75 (dk_at dksX2_init_8 0 rfl rfl)
theorem dX2_init_187 : decode cX2_init 187 = .ok (.aload_n 0, 1) := dk_42 (dk_at dksX2_init_8 3 rfl rfl)
theorem dX2_init_188 : decode cX2_init 188 = .ok (.bipush 12, 2) := dk_16 12 (dk_at dksX2_init_8 4 rfl rfl)
theorem dX2_init_190 : decode cX2_init 190 = .ok (.newarray .int, 2) := dk_188_10 (dk_at dksX2_init_8 6 rfl rfl)
theorem dX2_init_192 : decode cX2_init 192 = .ok (.putfield 78, 3) := dk_181 0 78 (dk_at dksX2_init_8 8 rfl rfl)
theorem dX2_init_195 : decode cX2_init 195 = .ok (.aload_n 0, 1) := dk_42 (dk_at dksX2_init_8 11 rfl rfl)
theorem dX2_init_196 : decode cX2_init 196 = .ok (.bipush 12, 2) := dk_16 12 (dk_at dksX2_init_8 12 rfl rfl)
theorem dX2_init_198 : decode cX2_init 198 = .ok (.newarray .int, 2) := dk_188_10 (dk_at dksX2_init_8 14 rfl rfl)
theorem dX2_init_200 : decode cX2_init 200 = .ok (.putfield 81, 3) := dk_181 0 81 (dk_at dksX2_init_8 16 rfl rfl)
theorem dX2_init_203 : decode cX2_init 203 = .ok (.aload_n 0, 1) := dk_42 (dk_at dksX2_init_8 19 rfl rfl)
theorem dX2_init_204 : decode cX2_init 204 = .ok (.bipush 12, 2) := dk_16 12 (dk_at dksX2_init_8 20 rfl rfl)
theorem dX2_init_206 : decode cX2_init 206 = .ok (.newarray .int, 2) := dk_188_10 (dk_at dksX2_init_8 22 rfl rfl)
theorem dX2_init_208 : decode cX2_init 208 = .ok (.putfield 84, 3) := dk_181 0 84 (dk_at dksX2_init_9 0 rfl rfl)
theorem dX2_init_211 : decode cX2_init 211 = .ok (.aload_n 0, 1) := dk_42 (dk_at dksX2_init_9 3 rfl rfl)
theorem dX2_init_212 : decode cX2_init 212 = .ok (.bipush 12, 2) := dk_16 12 (dk_at dksX2_init_9 4 rfl rfl)
theorem dX2_init_214 : decode cX2_init 214 = .ok (.newarray .int, 2) := dk_188_10 (dk_at dksX2_init_9 6 rfl rfl)
theorem dX2_init_216 : decode cX2_init 216 = .ok (.putfield 87, 3) := dk_181 0 87 (dk_at dksX2_init_9 8 rfl rfl)
theorem dX2_init_219 : decode cX2_init 219 = .ok (.aload_n 0, 1) := dk_42 (dk_at dksX2_init_9 11 rfl rfl)
theorem dX2_init_220 : decode cX2_init 220 = .ok (.bipush 12, 2) := dk_16 12 (dk_at dksX2_init_9 12 rfl rfl)
theorem dX2_init_222 : decode cX2_init 222 = .ok (.newarray .boolean, 2) := dk_188_4 (dk_at dksX2_init_9 14 rfl rfl)
theorem dX2_init_224 : decode cX2_init 224 = .ok (.putfield 90, 3) := dk_181 0 90 (dk_at dksX2_init_9 16 rfl rfl)
theorem dX2_init_227 : decode cX2_init 227 = .ok (.aload_n 0, 1) := dk_42 (dk_at dksX2_init_9 19 rfl rfl)
theorem dX2_init_228 : decode cX2_init 228 = .ok (.bipush 60, 2) := dk_16 60 (dk_at dksX2_init_9 20 rfl rfl)
theorem dX2_init_230 : decode cX2_init 230 = .ok (.newarray .int, 2) := dk_188_10 (dk_at dksX2_init_9 22 rfl rfl)
theorem dX2_init_232 : decode cX2_init 232 = .ok (.putfield 94, 3) := dk_181 0 94 (dk_at dksX2_init_10 0 rfl rfl)
theorem dX2_init_235 : decode cX2_init 235 = .ok (.aload_n 0, 1) := dk_42 (dk_at dksX2_init_10 3 rfl rfl)
theorem dX2_init_236 : decode cX2_init 236 = .ok (.bipush 36, 2) := dk_16 36 (dk_at dksX2_init_10 4 rfl rfl)
theorem dX2_init_238 : decode cX2_init 238 = .ok (.newarray .int, 2) := dk_188_10 (dk_at dksX2_init_10 6 rfl rfl)
theorem dX2_init_240 : decode cX2_init 240 = .ok (.putfield 97, 3) := dk_181 0 97 (dk_at dksX2_init_10 8 rfl rfl)
theorem dX2_init_243 : decode cX2_init 243 = .ok (.aload_n 0, 1) := dk_42 (dk_at dksX2_init_10 11 rfl rfl)
theorem dX2_init_244 : decode cX2_init 244 = .ok (.bipush 36, 2) := dk_16 36 (dk_at dksX2_init_10 12 rfl rfl)
theorem dX2_init_246 : decode cX2_init 246 = .ok (.newarray .int, 2) := dk_188_10 (dk_at dksX2_init_10 14 rfl rfl)
theorem dX2_init_248 : decode cX2_init 248 = .ok (.putfield 100, 3) := dk_181 0 100 (dk_at dksX2_init_10 16 rfl rfl)
theorem dX2_init_251 : decode cX2_init 251 = .ok (.aload_n 0, 1) := dk_42 (dk_at dksX2_init_10 19 rfl rfl)
theorem dX2_init_252 : decode cX2_init 252 = .ok (.bipush 48, 2) := dk_16 48 (dk_at dksX2_init_10 20 rfl rfl)
theorem dX2_init_254 : decode cX2_init 254 = .ok (.newarray .int, 2) := dk_188_10 (dk_at dksX2_init_10 22 rfl rfl)
theorem dX2_init_256 : decode cX2_init 256 = .ok (.putfield 103, 3) := dk_181 0 103 (dk_at dksX2_init_11 0 rfl rfl)
theorem dX2_init_259 : decode cX2_init 259 = .ok (.aload_n 0, 1) := dk_42 (dk_at dksX2_init_11 3 rfl rfl)
theorem dX2_init_260 : decode cX2_init 260 = .ok (.bipush 48, 2) := dk_16 48 (dk_at dksX2_init_11 4 rfl rfl)
theorem dX2_init_262 : decode cX2_init 262 = .ok (.newarray .int, 2) := dk_188_10 (dk_at dksX2_init_11 6 rfl rfl)
theorem dX2_init_264 : decode cX2_init 264 = .ok (.putfield 106, 3) := dk_181 0 106 (dk_at dksX2_init_11 8 rfl rfl)
theorem dX2_init_267 : decode cX2_init 267 = .ok (.aload_n 0, 1) := dk_42 (dk_at dksX2_init_11 11 rfl rfl)
theorem dX2_init_268 : decode cX2_init 268 = .ok (.bipush 12, 2) := dk_16 12 (dk_at dksX2_init_11 12 rfl rfl)
theorem dX2_init_270 : decode cX2_init 270 = .ok (.newarray .int, 2) := dk_188_10 (dk_at dksX2_init_11 14 rfl rfl)
theorem dX2_init_272 : decode cX2_init 272 = .ok (.putfield 109, 3) := dk_181 0 109 (dk_at dksX2_init_11 16 rfl rfl)
theorem dX2_init_275 : decode cX2_init 275 = .ok (.aload_n 0, 1) := dk_42 (dk_at dksX2_init_11 19 rfl rfl)
theorem dX2_init_276 : decode cX2_init 276 = .ok (.bipush 12, 2) := dk_16 12 (dk_at dksX2_init_11 20 rfl rfl)
theorem dX2_init_278 : decode cX2_init 278 = .ok (.newarray .int, 2) := dk_188_10 (dk_at dksX2_init_11 22 rfl rfl)
theorem dX2_init_280 : decode cX2_init 280 = .ok (.putfield 112, 3) := dk_181 0 112 (dk_at dksX2_init_12 0 rfl rfl)
theorem dX2_init_283 : decode cX2_init 283 = .ok (.aload_n 0, 1) := dk_42 (dk_at dksX2_init_12 3 rfl rfl)
theorem dX2_init_284 : decode cX2_init 284 = .ok (.bipush 12, 2) := dk_16 12 (dk_at dksX2_init_12 4 rfl rfl)
theorem dX2_init_286 : decode cX2_init 286 = .ok (.newarray .int, 2) := dk_188_10 (dk_at dksX2_init_12 6 rfl rfl)
theorem dX2_init_288 : decode cX2_init 288 = .ok (.putfield 115, 3) := dk_181 0 115 (dk_at dksX2_init_12 8 rfl rfl)
theorem dX2_init_291 : decode cX2_init 291 = .ok (.aload_n 0, 1) := dk_42 (dk_at dksX2_init_12 11 rfl rfl)
theorem dX2_init_292 : decode cX2_init 292 = .ok (.bipush 48, 2) := dk_16 48 (dk_at dksX2_init_12 12 rfl rfl)
theorem dX2_init_294 : decode cX2_init 294 = .ok (.newarray .int, 2) := dk_188_10 (dk_at dksX2_init_12 14 rfl rfl)
theorem dX2_init_296 : decode cX2_init 296 = .ok (.putfield 118, 3) := dk_181 0 118 (dk_at dksX2_init_12 16 rfl rfl)
theorem dX2_init_299 : decode cX2_init 299 = .ok (.aload_n 0, 1) := dk_42 (dk_at dksX2_init_12 19 rfl rfl)
theorem dX2_init_300 : decode cX2_init 300 = .ok (.bipush 12, 2) := dk_16 12 (dk_at dksX2_init_12 20 rfl rfl)
theorem dX2_init_302 : decode cX2_init 302 = .ok (.newarray .int, 2) := dk_188_10 (dk_at dksX2_init_12 22 rfl rfl)
theorem dX2_init_304 : decode cX2_init 304 = .ok (.putfield 121, 3) := dk_181 0 121 (dk_at dksX2_init_13 0 rfl rfl)
theorem dX2_init_307 : decode cX2_init 307 = .ok (.aload_n 0, 1) := dk_42 (dk_at dksX2_init_13 3 rfl rfl)
theorem dX2_init_308 : decode cX2_init 308 = .ok (.bipush 12, 2) := dk_16 12 (dk_at dksX2_init_13 4 rfl rfl)
theorem dX2_init_310 : decode cX2_init 310 = .ok (.newarray .int, 2) := dk_188_10 (dk_at dksX2_init_13 6 rfl rfl)
theorem dX2_init_312 : decode cX2_init 312 = .ok (.putfield 124, 3) := dk_181 0 124 (dk_at dksX2_init_13 8 rfl rfl)
theorem dX2_init_315 : decode cX2_init 315 = .ok (.aload_n 0, 1) := dk_42 (dk_at dksX2_init_13 11 rfl rfl)
theorem dX2_init_316 : decode cX2_init 316 = .ok (.bipush 12, 2) := dk_16 12 (dk_at dksX2_init_13 12 rfl rfl)
theorem dX2_init_318 : decode cX2_init 318 = .ok (.newarray .int, 2) := dk_188_10 (dk_at dksX2_init_13 14 rfl rfl)
theorem dX2_init_320 : decode cX2_init 320 = .ok (.putfield 127, 3) := dk_181 0 127 (dk_at dksX2_init_13 16 rfl rfl)
theorem dX2_init_323 : decode cX2_init 323 = .ok (.aload_n 0, 1) := dk_42 (dk_at dksX2_init_13 19 rfl rfl)
theorem dX2_init_324 : decode cX2_init 324 = .ok (.bipush 16, 2) := dk_16 16 (dk_at dksX2_init_13 20 rfl rfl)
theorem dX2_init_326 : decode cX2_init 326 = .ok (.newarray .boolean, 2) := dk_188_4 (dk_at dksX2_init_13 22 rfl rfl)
theorem dX2_init_328 : decode cX2_init 328 = .ok (.putfield 130, 3) := dk_181 0 130 (dk_at dksX2_init_14 0 rfl rfl)
theorem dX2_init_331 : decode cX2_init 331 = .ok (.aload_n 0, 1) := dk_42 (dk_at dksX2_init_14 3 rfl rfl)
theorem dX2_init_332 : decode cX2_init 332 = .ok (.bipush 16, 2) := dk_16 16 (dk_at dksX2_init_14 4 rfl rfl)
theorem dX2_init_334 : decode cX2_init 334 = .ok (.newarray .boolean, 2) := dk_188_4 (dk_at dksX2_init_14 6 rfl rfl)
theorem dX2_init_336 : decode cX2_init 336 = .ok (.putfield 133, 3) := dk_181 0 133 (dk_at dksX2_init_14 8 rfl rfl)
theorem dX2_init_339 : decode cX2_init 339 = .ok (.aload_n 0, 1) := dk_42 (dk_at dksX2_init_14 11 rfl rfl)
theorem dX2_init_340 : decode cX2_init 340 = .ok (.sipush 1024, 3) := dk_17 4 0 (dk_at dksX2_init_14 12 rfl rfl)
theorem dX2_init_343 : decode cX2_init 343 = .ok (.newarray .boolean, 2) := dk_188_4 (dk_at dksX2_init_14 15 rfl rfl)
theorem dX2_init_345 : decode cX2_init 345 = .ok (.putfield 136, 3) := dk_181 0 136 (dk_at dksX2_init_14 17 rfl rfl)
theorem dX2_init_348 : decode cX2_init 348 = .ok (.aload_n 0, 1) := dk_42 (dk_at dksX2_init_14 20 rfl rfl)
theorem dX2_init_349 : decode cX2_init 349 = .ok (.sipush 1024, 3) := dk_17 4 0 (dk_at dksX2_init_14 21 rfl rfl)
theorem dX2_init_352 : decode cX2_init 352 = .ok (.newarray .int, 2) := dk_188_10 (dk_at dksX2_init_15 0 rfl rfl)
theorem dX2_init_354 : decode cX2_init 354 = .ok (.putfield 139, 3) := dk_181 0 139 (dk_at dksX2_init_15 2 rfl rfl)
theorem dX2_init_357 : decode cX2_init 357 = .ok (.aload_n 0, 1) := dk_42 (dk_at dksX2_init_15 5 rfl rfl)
theorem dX2_init_358 : decode cX2_init 358 = .ok (.sipush 1024, 3) := dk_17 4 0 (dk_at dksX2_init_15 6 rfl rfl)
theorem dX2_init_361 : decode cX2_init 361 = .ok (.newarray .int, 2) := dk_188_10 (dk_at dksX2_init_15 9 rfl rfl)
theorem dX2_init_363 : decode cX2_init 363 = .ok (.putfield 142, 3) := dk_181 0 142 (dk_at dksX2_init_15 11 rfl rfl)
theorem dX2_init_366 : decode cX2_init 366 = .ok (.aload_n 0, 1) := dk_42 (dk_at dksX2_init_15 14 rfl rfl)
theorem dX2_init_367 : decode cX2_init 367 = .ok (.sipush 5120, 3) := dk_17 20 0 (dk_at dksX2_init_15 15 rfl rfl)
theorem dX2_init_370 : decode cX2_init 370 = .ok (.newarray .int, 2) := dk_188_10 (dk_at dksX2_init_15 18 rfl rfl)
theorem dX2_init_372 : decode cX2_init 372 = .ok (.putfield 145, 3) := dk_181 0 145 (dk_at dksX2_init_15 20 rfl rfl)
theorem dX2_init_375 : decode cX2_init 375 = .ok (.return_, 1) := dk_177 (dk_at dksX2_init_15 23 rfl rfl)
abbrev cX2_feed : ByteArray := prog_23_method_4_code
def yX2_feed : MethodName := ⟨RX2, "feed", "(IIIII)I"⟩
def dkwX2_feed_4 : List UInt8 := [122, 145, 84, 42, 89, 180, 0, 148, 4, 96, 181, 0, 148, 132, 6, 1, 167, 255, 165, 42, 180, 0, 148, 172]
abbrev dktX2_feed_4 : List UInt8 := dkwX2_feed_4 ++ []
def dkwX2_feed_3 : List UInt8 := [21, 5, 54, 7, 42, 180, 0, 58, 42, 180, 0, 148, 21, 7, 16, 24, 16, 8, 21, 6, 7, 112, 104, 100]
abbrev dktX2_feed_3 : List UInt8 := dkwX2_feed_3 ++ dktX2_feed_4
def dkwX2_feed_2 : List UInt8 := [21, 6, 16, 12, 162, 0, 7, 29, 167, 0, 17, 21, 6, 16, 16, 162, 0, 8, 21, 4, 167, 0, 5]
abbrev dktX2_feed_2 : List UInt8 := dkwX2_feed_2 ++ dktX2_feed_3
def dkwX2_feed_1 : List UInt8 := [162, 0, 90, 21, 6, 7, 162, 0, 7, 27, 167, 0, 39, 21, 6, 16, 8, 162, 0, 7, 28, 167, 0, 28]
abbrev dktX2_feed_1 : List UInt8 := dkwX2_feed_1 ++ dktX2_feed_2
def dkwX2_feed_0 : List UInt8 := [42, 180, 0, 148, 16, 20, 96, 17, 3, 132, 164, 0, 5, 2, 172, 3, 54, 6, 21, 6, 16, 20]
abbrev dktX2_feed_0 : List UInt8 := dkwX2_feed_0 ++ dktX2_feed_1
theorem dksX2_feed_0 : cX2_feed.data.toList.drop 0 = dktX2_feed_0 := by decide +kernel
theorem dksX2_feed_1 : cX2_feed.data.toList.drop 22 = dktX2_feed_1 := dk_seg dksX2_feed_0 22 rfl rfl
theorem dksX2_feed_2 : cX2_feed.data.toList.drop 46 = dktX2_feed_2 := dk_seg dksX2_feed_1 24 rfl rfl
theorem dksX2_feed_3 : cX2_feed.data.toList.drop 69 = dktX2_feed_3 := dk_seg dksX2_feed_2 23 rfl rfl
theorem dksX2_feed_4 : cX2_feed.data.toList.drop 93 = dktX2_feed_4 := dk_seg dksX2_feed_3 24 rfl rfl
theorem dX2_feed_0 : decode cX2_feed 0 = .ok (.aload_n 0, 1) := dk_42 (dk_at dksX2_feed_0 0 rfl rfl)
theorem dX2_feed_1 : decode cX2_feed 1 = .ok (.getfield 148, 3) := dk_180 0 148 (dk_at dksX2_feed_0 1 rfl rfl)
theorem dX2_feed_4 : decode cX2_feed 4 = .ok (.bipush 20, 2) := dk_16 20 (dk_at dksX2_feed_0 4 rfl rfl)
theorem dX2_feed_6 : decode cX2_feed 6 = .ok (.iadd, 1) := dk_96 (dk_at dksX2_feed_0 6 rfl rfl)
theorem dX2_feed_7 : decode cX2_feed 7 = .ok (.sipush 900, 3) := dk_17 3 132 (dk_at dksX2_feed_0 7 rfl rfl)
theorem dX2_feed_10 : decode cX2_feed 10 = .ok (.if_icmp .le 5, 3) := dk_164 0 5 (dk_at dksX2_feed_0 10 rfl rfl)
theorem dX2_feed_13 : decode cX2_feed 13 = .ok (.iconst (-1), 1) := dk_2 (dk_at dksX2_feed_0 13 rfl rfl)
theorem dX2_feed_14 : decode cX2_feed 14 = .ok (.ireturn, 1) := dk_172 (dk_at dksX2_feed_0 14 rfl rfl)
theorem dX2_feed_15 : decode cX2_feed 15 = .ok (.iconst 0, 1) := dk_3 (dk_at dksX2_feed_0 15 rfl rfl)
theorem dX2_feed_16 : decode cX2_feed 16 = .ok (.istore 6, 2) := dk_54 6 (dk_at dksX2_feed_0 16 rfl rfl)
theorem dX2_feed_18 : decode cX2_feed 18 = .ok (.iload 6, 2) := dk_21 6 (dk_at dksX2_feed_0 18 rfl rfl)
theorem dX2_feed_20 : decode cX2_feed 20 = .ok (.bipush 20, 2) := dk_16 20 (dk_at dksX2_feed_0 20 rfl rfl)
theorem dX2_feed_22 : decode cX2_feed 22 = .ok (.if_icmp .ge 90, 3) := dk_162 0 90 (dk_at dksX2_feed_1 0 rfl rfl)
theorem dX2_feed_25 : decode cX2_feed 25 = .ok (.iload 6, 2) := dk_21 6 (dk_at dksX2_feed_1 3 rfl rfl)
theorem dX2_feed_27 : decode cX2_feed 27 = .ok (.iconst 4, 1) := dk_7 (dk_at dksX2_feed_1 5 rfl rfl)
theorem dX2_feed_28 : decode cX2_feed 28 = .ok (.if_icmp .ge 7, 3) := dk_162 0 7 (dk_at dksX2_feed_1 6 rfl rfl)
theorem dX2_feed_31 : decode cX2_feed 31 = .ok (.iload_n 1, 1) := dk_27 (dk_at dksX2_feed_1 9 rfl rfl)
theorem dX2_feed_32 : decode cX2_feed 32 = .ok (.goto 39, 3) := dk_167 0 39 (dk_at dksX2_feed_1 10 rfl rfl)
theorem dX2_feed_35 : decode cX2_feed 35 = .ok (.iload 6, 2) := dk_21 6 (dk_at dksX2_feed_1 13 rfl rfl)
theorem dX2_feed_37 : decode cX2_feed 37 = .ok (.bipush 8, 2) := dk_16 8 (dk_at dksX2_feed_1 15 rfl rfl)
theorem dX2_feed_39 : decode cX2_feed 39 = .ok (.if_icmp .ge 7, 3) := dk_162 0 7 (dk_at dksX2_feed_1 17 rfl rfl)
theorem dX2_feed_42 : decode cX2_feed 42 = .ok (.iload_n 2, 1) := dk_28 (dk_at dksX2_feed_1 20 rfl rfl)
theorem dX2_feed_43 : decode cX2_feed 43 = .ok (.goto 28, 3) := dk_167 0 28 (dk_at dksX2_feed_1 21 rfl rfl)
theorem dX2_feed_46 : decode cX2_feed 46 = .ok (.iload 6, 2) := dk_21 6 (dk_at dksX2_feed_2 0 rfl rfl)
theorem dX2_feed_48 : decode cX2_feed 48 = .ok (.bipush 12, 2) := dk_16 12 (dk_at dksX2_feed_2 2 rfl rfl)
theorem dX2_feed_50 : decode cX2_feed 50 = .ok (.if_icmp .ge 7, 3) := dk_162 0 7 (dk_at dksX2_feed_2 4 rfl rfl)
theorem dX2_feed_53 : decode cX2_feed 53 = .ok (.iload_n 3, 1) := dk_29 (dk_at dksX2_feed_2 7 rfl rfl)
theorem dX2_feed_54 : decode cX2_feed 54 = .ok (.goto 17, 3) := dk_167 0 17 (dk_at dksX2_feed_2 8 rfl rfl)
theorem dX2_feed_57 : decode cX2_feed 57 = .ok (.iload 6, 2) := dk_21 6 (dk_at dksX2_feed_2 11 rfl rfl)
theorem dX2_feed_59 : decode cX2_feed 59 = .ok (.bipush 16, 2) := dk_16 16 (dk_at dksX2_feed_2 13 rfl rfl)
theorem dX2_feed_61 : decode cX2_feed 61 = .ok (.if_icmp .ge 8, 3) := dk_162 0 8 (dk_at dksX2_feed_2 15 rfl rfl)
theorem dX2_feed_64 : decode cX2_feed 64 = .ok (.iload 4, 2) := dk_21 4 (dk_at dksX2_feed_2 18 rfl rfl)
theorem dX2_feed_66 : decode cX2_feed 66 = .ok (.goto 5, 3) := dk_167 0 5 (dk_at dksX2_feed_2 20 rfl rfl)
theorem dX2_feed_69 : decode cX2_feed 69 = .ok (.iload 5, 2) := dk_21 5 (dk_at dksX2_feed_3 0 rfl rfl)
theorem dX2_feed_71 : decode cX2_feed 71 = .ok (.istore 7, 2) := dk_54 7 (dk_at dksX2_feed_3 2 rfl rfl)
theorem dX2_feed_73 : decode cX2_feed 73 = .ok (.aload_n 0, 1) := dk_42 (dk_at dksX2_feed_3 4 rfl rfl)
theorem dX2_feed_74 : decode cX2_feed 74 = .ok (.getfield 58, 3) := dk_180 0 58 (dk_at dksX2_feed_3 5 rfl rfl)
theorem dX2_feed_77 : decode cX2_feed 77 = .ok (.aload_n 0, 1) := dk_42 (dk_at dksX2_feed_3 8 rfl rfl)
theorem dX2_feed_78 : decode cX2_feed 78 = .ok (.getfield 148, 3) := dk_180 0 148 (dk_at dksX2_feed_3 9 rfl rfl)
theorem dX2_feed_81 : decode cX2_feed 81 = .ok (.iload 7, 2) := dk_21 7 (dk_at dksX2_feed_3 12 rfl rfl)
theorem dX2_feed_83 : decode cX2_feed 83 = .ok (.bipush 24, 2) := dk_16 24 (dk_at dksX2_feed_3 14 rfl rfl)
theorem dX2_feed_85 : decode cX2_feed 85 = .ok (.bipush 8, 2) := dk_16 8 (dk_at dksX2_feed_3 16 rfl rfl)
theorem dX2_feed_87 : decode cX2_feed 87 = .ok (.iload 6, 2) := dk_21 6 (dk_at dksX2_feed_3 18 rfl rfl)
theorem dX2_feed_89 : decode cX2_feed 89 = .ok (.iconst 4, 1) := dk_7 (dk_at dksX2_feed_3 20 rfl rfl)
theorem dX2_feed_90 : decode cX2_feed 90 = .ok (.irem, 1) := dk_112 (dk_at dksX2_feed_3 21 rfl rfl)
theorem dX2_feed_91 : decode cX2_feed 91 = .ok (.imul, 1) := dk_104 (dk_at dksX2_feed_3 22 rfl rfl)
theorem dX2_feed_92 : decode cX2_feed 92 = .ok (.isub, 1) := dk_100 (dk_at dksX2_feed_3 23 rfl rfl)
theorem dX2_feed_93 : decode cX2_feed 93 = .ok (.ishr, 1) := dk_122 (dk_at dksX2_feed_4 0 rfl rfl)
theorem dX2_feed_94 : decode cX2_feed 94 = .ok (.i2b, 1) := dk_145 (dk_at dksX2_feed_4 1 rfl rfl)
theorem dX2_feed_95 : decode cX2_feed 95 = .ok (.bastore, 1) := dk_84 (dk_at dksX2_feed_4 2 rfl rfl)
theorem dX2_feed_96 : decode cX2_feed 96 = .ok (.aload_n 0, 1) := dk_42 (dk_at dksX2_feed_4 3 rfl rfl)
theorem dX2_feed_97 : decode cX2_feed 97 = .ok (.dup, 1) := dk_89 (dk_at dksX2_feed_4 4 rfl rfl)
theorem dX2_feed_98 : decode cX2_feed 98 = .ok (.getfield 148, 3) := dk_180 0 148 (dk_at dksX2_feed_4 5 rfl rfl)
theorem dX2_feed_101 : decode cX2_feed 101 = .ok (.iconst 1, 1) := dk_4 (dk_at dksX2_feed_4 8 rfl rfl)
theorem dX2_feed_102 : decode cX2_feed 102 = .ok (.iadd, 1) := dk_96 (dk_at dksX2_feed_4 9 rfl rfl)
theorem dX2_feed_103 : decode cX2_feed 103 = .ok (.putfield 148, 3) := dk_181 0 148 (dk_at dksX2_feed_4 10 rfl rfl)
theorem dX2_feed_106 : decode cX2_feed 106 = .ok (.iinc 6 1, 3) := dk_132 6 1 (dk_at dksX2_feed_4 13 rfl rfl)
theorem dX2_feed_109 : decode cX2_feed 109 = .ok (.goto (-91), 3) := dk_167 255 165 (dk_at dksX2_feed_4 16 rfl rfl)
theorem dX2_feed_112 : decode cX2_feed 112 = .ok (.aload_n 0, 1) := dk_42 (dk_at dksX2_feed_4 19 rfl rfl)
theorem dX2_feed_113 : decode cX2_feed 113 = .ok (.getfield 148, 3) := dk_180 0 148 (dk_at dksX2_feed_4 20 rfl rfl)
theorem dX2_feed_116 : decode cX2_feed 116 = .ok (.ireturn, 1) := dk_172 (dk_at dksX2_feed_4 23 rfl rfl)
abbrev cX2_tell : ByteArray := prog_23_method_24_code
def yX2_tell : MethodName := ⟨RX2, "tell", "(I)I"⟩
def dkwX2_tell_3 : List UInt8 := [4, 96, 79, 42, 180, 0, 7, 3, 46, 4, 100, 172]
abbrev dktX2_tell_3 : List UInt8 := dkwX2_tell_3 ++ []
def dkwX2_tell_2 : List UInt8 := [156, 0, 5, 2, 172, 42, 180, 0, 19, 42, 180, 0, 7, 3, 46, 28, 79, 42, 180, 0, 7, 3, 92, 46]
abbrev dktX2_tell_2 : List UInt8 := dkwX2_tell_2 ++ dktX2_tell_3
def dkwX2_tell_1 : List UInt8 := [160, 0, 6, 16, 253, 172, 42, 27, 182, 1, 37, 42, 42, 180, 0, 7, 3, 46, 3, 182, 1, 40, 61, 28]
abbrev dktX2_tell_1 : List UInt8 := dkwX2_tell_1 ++ dktX2_tell_2
def dkwX2_tell_0 : List UInt8 := [27, 155, 0, 11, 27, 42, 180, 0, 148, 164, 0, 6, 16, 254, 172, 42, 180, 0, 7, 3, 46, 16, 16]
abbrev dktX2_tell_0 : List UInt8 := dkwX2_tell_0 ++ dktX2_tell_1
theorem dksX2_tell_0 : cX2_tell.data.toList.drop 0 = dktX2_tell_0 := by decide +kernel
theorem dksX2_tell_1 : cX2_tell.data.toList.drop 23 = dktX2_tell_1 := dk_seg dksX2_tell_0 23 rfl rfl
theorem dksX2_tell_2 : cX2_tell.data.toList.drop 47 = dktX2_tell_2 := dk_seg dksX2_tell_1 24 rfl rfl
theorem dksX2_tell_3 : cX2_tell.data.toList.drop 71 = dktX2_tell_3 := dk_seg dksX2_tell_2 24 rfl rfl
theorem dX2_tell_0 : decode cX2_tell 0 = .ok (.iload_n 1, 1) := dk_27 (dk_at dksX2_tell_0 0 rfl rfl)
theorem dX2_tell_1 : decode cX2_tell 1 = .ok (.ifCond .lt 11, 3) := dk_155 0 11 (dk_at dksX2_tell_0 1 rfl rfl)
theorem dX2_tell_4 : decode cX2_tell 4 = .ok (.iload_n 1, 1) := dk_27 (dk_at dksX2_tell_0 4 rfl rfl)
theorem dX2_tell_5 : decode cX2_tell 5 = .ok (.aload_n 0, 1) := dk_42 (dk_at dksX2_tell_0 5 rfl rfl)
theorem dX2_tell_6 : decode cX2_tell 6 = .ok (.getfield 148, 3) := dk_180 0 148 (dk_at dksX2_tell_0 6 rfl rfl)
theorem dX2_tell_9 : decode cX2_tell 9 = .ok (.if_icmp .le 6, 3) := dk_164 0 6 (dk_at dksX2_tell_0 9 rfl rfl)
theorem dX2_tell_12 : decode cX2_tell 12 = .ok (.bipush (-2), 2) := dk_16 254 (dk_at dksX2_tell_0 12 rfl rfl)
theorem dX2_tell_14 : decode cX2_tell 14 = .ok (.ireturn, 1) := dk_172 (dk_at dksX2_tell_0 14 rfl rfl)
theorem dX2_tell_15 : decode cX2_tell 15 = .ok (.aload_n 0, 1) := dk_42 (dk_at dksX2_tell_0 15 rfl rfl)
theorem dX2_tell_16 : decode cX2_tell 16 = .ok (.getfield 7, 3) := dk_180 0 7 (dk_at dksX2_tell_0 16 rfl rfl)
theorem dX2_tell_19 : decode cX2_tell 19 = .ok (.iconst 0, 1) := dk_3 (dk_at dksX2_tell_0 19 rfl rfl)
theorem dX2_tell_20 : decode cX2_tell 20 = .ok (.iaload, 1) := dk_46 (dk_at dksX2_tell_0 20 rfl rfl)
theorem dX2_tell_21 : decode cX2_tell 21 = .ok (.bipush 16, 2) := dk_16 16 (dk_at dksX2_tell_0 21 rfl rfl)
theorem dX2_tell_23 : decode cX2_tell 23 = .ok (.if_icmp .ne 6, 3) := dk_160 0 6 (dk_at dksX2_tell_1 0 rfl rfl)
theorem dX2_tell_26 : decode cX2_tell 26 = .ok (.bipush (-3), 2) := dk_16 253 (dk_at dksX2_tell_1 3 rfl rfl)
theorem dX2_tell_28 : decode cX2_tell 28 = .ok (.ireturn, 1) := dk_172 (dk_at dksX2_tell_1 5 rfl rfl)
theorem dX2_tell_29 : decode cX2_tell 29 = .ok (.aload_n 0, 1) := dk_42 (dk_at dksX2_tell_1 6 rfl rfl)
theorem dX2_tell_30 : decode cX2_tell 30 = .ok (.iload_n 1, 1) := dk_27 (dk_at dksX2_tell_1 7 rfl rfl)
theorem dX2_tell_31 : decode cX2_tell 31 = .ok (.invokevirtual 293, 3) := dk_182 1 37 (dk_at dksX2_tell_1 8 rfl rfl)
theorem dX2_tell_34 : decode cX2_tell 34 = .ok (.aload_n 0, 1) := dk_42 (dk_at dksX2_tell_1 11 rfl rfl)
theorem dX2_tell_35 : decode cX2_tell 35 = .ok (.aload_n 0, 1) := dk_42 (dk_at dksX2_tell_1 12 rfl rfl)
theorem dX2_tell_36 : decode cX2_tell 36 = .ok (.getfield 7, 3) := dk_180 0 7 (dk_at dksX2_tell_1 13 rfl rfl)
theorem dX2_tell_39 : decode cX2_tell 39 = .ok (.iconst 0, 1) := dk_3 (dk_at dksX2_tell_1 16 rfl rfl)
theorem dX2_tell_40 : decode cX2_tell 40 = .ok (.iaload, 1) := dk_46 (dk_at dksX2_tell_1 17 rfl rfl)
theorem dX2_tell_41 : decode cX2_tell 41 = .ok (.iconst 0, 1) := dk_3 (dk_at dksX2_tell_1 18 rfl rfl)
theorem dX2_tell_42 : decode cX2_tell 42 = .ok (.invokevirtual 296, 3) := dk_182 1 40 (dk_at dksX2_tell_1 19 rfl rfl)
theorem dX2_tell_45 : decode cX2_tell 45 = .ok (.istore_n 2, 1) := dk_61 (dk_at dksX2_tell_1 22 rfl rfl)
theorem dX2_tell_46 : decode cX2_tell 46 = .ok (.iload_n 2, 1) := dk_28 (dk_at dksX2_tell_1 23 rfl rfl)
theorem dX2_tell_47 : decode cX2_tell 47 = .ok (.ifCond .ge 5, 3) := dk_156 0 5 (dk_at dksX2_tell_2 0 rfl rfl)
theorem dX2_tell_50 : decode cX2_tell 50 = .ok (.iconst (-1), 1) := dk_2 (dk_at dksX2_tell_2 3 rfl rfl)
theorem dX2_tell_51 : decode cX2_tell 51 = .ok (.ireturn, 1) := dk_172 (dk_at dksX2_tell_2 4 rfl rfl)
theorem dX2_tell_52 : decode cX2_tell 52 = .ok (.aload_n 0, 1) := dk_42 (dk_at dksX2_tell_2 5 rfl rfl)
theorem dX2_tell_53 : decode cX2_tell 53 = .ok (.getfield 19, 3) := dk_180 0 19 (dk_at dksX2_tell_2 6 rfl rfl)
theorem dX2_tell_56 : decode cX2_tell 56 = .ok (.aload_n 0, 1) := dk_42 (dk_at dksX2_tell_2 9 rfl rfl)
theorem dX2_tell_57 : decode cX2_tell 57 = .ok (.getfield 7, 3) := dk_180 0 7 (dk_at dksX2_tell_2 10 rfl rfl)
theorem dX2_tell_60 : decode cX2_tell 60 = .ok (.iconst 0, 1) := dk_3 (dk_at dksX2_tell_2 13 rfl rfl)
theorem dX2_tell_61 : decode cX2_tell 61 = .ok (.iaload, 1) := dk_46 (dk_at dksX2_tell_2 14 rfl rfl)
theorem dX2_tell_62 : decode cX2_tell 62 = .ok (.iload_n 2, 1) := dk_28 (dk_at dksX2_tell_2 15 rfl rfl)
theorem dX2_tell_63 : decode cX2_tell 63 = .ok (.iastore, 1) := dk_79 (dk_at dksX2_tell_2 16 rfl rfl)
theorem dX2_tell_64 : decode cX2_tell 64 = .ok (.aload_n 0, 1) := dk_42 (dk_at dksX2_tell_2 17 rfl rfl)
theorem dX2_tell_65 : decode cX2_tell 65 = .ok (.getfield 7, 3) := dk_180 0 7 (dk_at dksX2_tell_2 18 rfl rfl)
theorem dX2_tell_68 : decode cX2_tell 68 = .ok (.iconst 0, 1) := dk_3 (dk_at dksX2_tell_2 21 rfl rfl)
theorem dX2_tell_69 : decode cX2_tell 69 = .ok (.dup2, 1) := dk_92 (dk_at dksX2_tell_2 22 rfl rfl)
theorem dX2_tell_70 : decode cX2_tell 70 = .ok (.iaload, 1) := dk_46 (dk_at dksX2_tell_2 23 rfl rfl)
theorem dX2_tell_71 : decode cX2_tell 71 = .ok (.iconst 1, 1) := dk_4 (dk_at dksX2_tell_3 0 rfl rfl)
theorem dX2_tell_72 : decode cX2_tell 72 = .ok (.iadd, 1) := dk_96 (dk_at dksX2_tell_3 1 rfl rfl)
theorem dX2_tell_73 : decode cX2_tell 73 = .ok (.iastore, 1) := dk_79 (dk_at dksX2_tell_3 2 rfl rfl)
theorem dX2_tell_74 : decode cX2_tell 74 = .ok (.aload_n 0, 1) := dk_42 (dk_at dksX2_tell_3 3 rfl rfl)
theorem dX2_tell_75 : decode cX2_tell 75 = .ok (.getfield 7, 3) := dk_180 0 7 (dk_at dksX2_tell_3 4 rfl rfl)
theorem dX2_tell_78 : decode cX2_tell 78 = .ok (.iconst 0, 1) := dk_3 (dk_at dksX2_tell_3 7 rfl rfl)
theorem dX2_tell_79 : decode cX2_tell 79 = .ok (.iaload, 1) := dk_46 (dk_at dksX2_tell_3 8 rfl rfl)
theorem dX2_tell_80 : decode cX2_tell 80 = .ok (.iconst 1, 1) := dk_4 (dk_at dksX2_tell_3 9 rfl rfl)
theorem dX2_tell_81 : decode cX2_tell 81 = .ok (.isub, 1) := dk_100 (dk_at dksX2_tell_3 10 rfl rfl)
theorem dX2_tell_82 : decode cX2_tell 82 = .ok (.ireturn, 1) := dk_172 (dk_at dksX2_tell_3 11 rfl rfl)
abbrev cX2_begins : ByteArray := prog_23_method_12_code
def yX2_begins : MethodName := ⟨RX2, "begins", "(I)V"⟩
def dkwX2_begins_1 : List UInt8 := [181, 0, 183, 42, 182, 0, 191, 177]
abbrev dktX2_begins_1 : List UInt8 := dkwX2_begins_1 ++ []
def dkwX2_begins_0 : List UInt8 := [42, 27, 181, 0, 154, 42, 3, 181, 0, 148, 42, 3, 181, 0, 151, 42, 2, 181, 0, 62, 42, 3]
abbrev dktX2_begins_0 : List UInt8 := dkwX2_begins_0 ++ dktX2_begins_1
theorem dksX2_begins_0 : cX2_begins.data.toList.drop 0 = dktX2_begins_0 := by decide +kernel
theorem dksX2_begins_1 : cX2_begins.data.toList.drop 22 = dktX2_begins_1 := dk_seg dksX2_begins_0 22 rfl rfl
theorem dX2_begins_0 : decode cX2_begins 0 = .ok (.aload_n 0, 1) := dk_42 (dk_at dksX2_begins_0 0 rfl rfl)
theorem dX2_begins_1 : decode cX2_begins 1 = .ok (.iload_n 1, 1) := dk_27 (dk_at dksX2_begins_0 1 rfl rfl)
theorem dX2_begins_2 : decode cX2_begins 2 = .ok (.putfield 154, 3) := dk_181 0 154 (dk_at dksX2_begins_0 2 rfl rfl)
theorem dX2_begins_5 : decode cX2_begins 5 = .ok (.aload_n 0, 1) := dk_42 (dk_at dksX2_begins_0 5 rfl rfl)
theorem dX2_begins_6 : decode cX2_begins 6 = .ok (.iconst 0, 1) := dk_3 (dk_at dksX2_begins_0 6 rfl rfl)
theorem dX2_begins_7 : decode cX2_begins 7 = .ok (.putfield 148, 3) := dk_181 0 148 (dk_at dksX2_begins_0 7 rfl rfl)
theorem dX2_begins_10 : decode cX2_begins 10 = .ok (.aload_n 0, 1) := dk_42 (dk_at dksX2_begins_0 10 rfl rfl)
theorem dX2_begins_11 : decode cX2_begins 11 = .ok (.iconst 0, 1) := dk_3 (dk_at dksX2_begins_0 11 rfl rfl)
theorem dX2_begins_12 : decode cX2_begins 12 = .ok (.putfield 151, 3) := dk_181 0 151 (dk_at dksX2_begins_0 12 rfl rfl)
theorem dX2_begins_15 : decode cX2_begins 15 = .ok (.aload_n 0, 1) := dk_42 (dk_at dksX2_begins_0 15 rfl rfl)
theorem dX2_begins_16 : decode cX2_begins 16 = .ok (.iconst (-1), 1) := dk_2 (dk_at dksX2_begins_0 16 rfl rfl)
theorem dX2_begins_17 : decode cX2_begins 17 = .ok (.putfield 62, 3) := dk_181 0 62 (dk_at dksX2_begins_0 17 rfl rfl)
theorem dX2_begins_20 : decode cX2_begins 20 = .ok (.aload_n 0, 1) := dk_42 (dk_at dksX2_begins_0 20 rfl rfl)
theorem dX2_begins_21 : decode cX2_begins 21 = .ok (.iconst 0, 1) := dk_3 (dk_at dksX2_begins_0 21 rfl rfl)
theorem dX2_begins_22 : decode cX2_begins 22 = .ok (.putfield 183, 3) := dk_181 0 183 (dk_at dksX2_begins_1 0 rfl rfl)
theorem dX2_begins_25 : decode cX2_begins 25 = .ok (.aload_n 0, 1) := dk_42 (dk_at dksX2_begins_1 3 rfl rfl)
theorem dX2_begins_26 : decode cX2_begins 26 = .ok (.invokevirtual 191, 3) := dk_182 0 191 (dk_at dksX2_begins_1 4 rfl rfl)
theorem dX2_begins_29 : decode cX2_begins 29 = .ok (.return_, 1) := dk_177 (dk_at dksX2_begins_1 7 rfl rfl)
abbrev cX2_next : ByteArray := prog_23_method_6_code
def yX2_next : MethodName := ⟨RX2, "next", "()V"⟩
def dkwX2_next_11 : List UInt8 := [167, 0, 4, 6, 181, 0, 173, 42, 89, 180, 0, 151, 4, 96, 181, 0, 151, 177]
abbrev dktX2_next_11 : List UInt8 := dkwX2_next_11 ++ []
def dkwX2_next_10 : List UInt8 := [163, 0, 7, 5, 167, 0, 4, 6, 181, 0, 173, 167, 0, 29, 42, 27, 16, 59, 160, 0, 8, 16, 59]
abbrev dktX2_next_10 : List UInt8 := dkwX2_next_10 ++ dktX2_next_11
def dkwX2_next_9 : List UInt8 := [180, 0, 151, 4, 96, 181, 0, 151, 167, 255, 204, 42, 42, 180, 0, 151, 42, 180, 0, 161, 100, 7]
abbrev dktX2_next_9 : List UInt8 := dkwX2_next_9 ++ dktX2_next_10
def dkwX2_next_8 : List UInt8 := [162, 0, 22, 42, 16, 10, 42, 180, 0, 170, 104, 42, 182, 0, 157, 96, 16, 48, 100, 181, 0, 170, 42, 89]
abbrev dktX2_next_8 : List UInt8 := dkwX2_next_8 ++ dktX2_next_9
def dkwX2_next_7 : List UInt8 := [153, 0, 83, 42, 182, 0, 157, 16, 48, 16, 57, 184, 0, 176, 153, 0, 44, 42, 180, 0, 170, 18, 182]
abbrev dktX2_next_7 : List UInt8 := dkwX2_next_7 ++ dktX2_next_8
def dkwX2_next_6 : List UInt8 := [181, 0, 166, 42, 89, 180, 0, 151, 4, 96, 181, 0, 151, 167, 255, 191, 27, 16, 48, 16, 57, 184, 0, 176]
abbrev dktX2_next_6 : List UInt8 := dkwX2_next_6 ++ dktX2_next_7
def dkwX2_next_5 : List UInt8 := [180, 0, 166, 20, 0, 180, 105, 42, 182, 0, 157, 16, 96, 100, 133, 97, 167, 0, 6, 20, 0, 164]
abbrev dktX2_next_5 : List UInt8 := dkwX2_next_5 ++ dktX2_next_6
def dkwX2_next_4 : List UInt8 := [16, 122, 184, 0, 176, 153, 0, 174, 42, 42, 180, 0, 151, 42, 180, 0, 161, 100, 16, 8, 162, 0, 23, 42]
abbrev dktX2_next_4 : List UInt8 := dkwX2_next_4 ++ dktX2_next_5
def dkwX2_next_3 : List UInt8 := [16, 122, 184, 0, 176, 153, 0, 81, 42, 4, 181, 0, 173, 42, 9, 181, 0, 166, 42, 182, 0, 157, 16, 97]
abbrev dktX2_next_3 : List UInt8 := dkwX2_next_3 ++ dktX2_next_4
def dkwX2_next_2 : List UInt8 := [181, 0, 166, 42, 3, 181, 0, 170, 27, 156, 0, 11, 42, 3, 181, 0, 173, 167, 0, 209, 27, 16, 97]
abbrev dktX2_next_2 : List UInt8 := dkwX2_next_2 ++ dktX2_next_3
def dkwX2_next_1 : List UInt8 := [96, 181, 0, 151, 167, 255, 228, 42, 42, 180, 0, 151, 181, 0, 161, 42, 182, 0, 157, 60, 42, 20, 0, 164]
abbrev dktX2_next_1 : List UInt8 := dkwX2_next_1 ++ dktX2_next_2
def dkwX2_next_0 : List UInt8 := [42, 182, 0, 157, 16, 32, 159, 0, 12, 42, 182, 0, 157, 16, 10, 160, 0, 16, 42, 89, 180, 0, 151, 4]
abbrev dktX2_next_0 : List UInt8 := dkwX2_next_0 ++ dktX2_next_1
theorem dksX2_next_0 : cX2_next.data.toList.drop 0 = dktX2_next_0 := by decide +kernel
theorem dksX2_next_1 : cX2_next.data.toList.drop 24 = dktX2_next_1 := dk_seg dksX2_next_0 24 rfl rfl
theorem dksX2_next_2 : cX2_next.data.toList.drop 48 = dktX2_next_2 := dk_seg dksX2_next_1 24 rfl rfl
theorem dksX2_next_3 : cX2_next.data.toList.drop 71 = dktX2_next_3 := dk_seg dksX2_next_2 23 rfl rfl
theorem dksX2_next_4 : cX2_next.data.toList.drop 95 = dktX2_next_4 := dk_seg dksX2_next_3 24 rfl rfl
theorem dksX2_next_5 : cX2_next.data.toList.drop 119 = dktX2_next_5 := dk_seg dksX2_next_4 24 rfl rfl
theorem dksX2_next_6 : cX2_next.data.toList.drop 141 = dktX2_next_6 := dk_seg dksX2_next_5 22 rfl rfl
theorem dksX2_next_7 : cX2_next.data.toList.drop 165 = dktX2_next_7 := dk_seg dksX2_next_6 24 rfl rfl
theorem dksX2_next_8 : cX2_next.data.toList.drop 188 = dktX2_next_8 := dk_seg dksX2_next_7 23 rfl rfl
theorem dksX2_next_9 : cX2_next.data.toList.drop 212 = dktX2_next_9 := dk_seg dksX2_next_8 24 rfl rfl
theorem dksX2_next_10 : cX2_next.data.toList.drop 234 = dktX2_next_10 := dk_seg dksX2_next_9 22 rfl rfl
theorem dksX2_next_11 : cX2_next.data.toList.drop 257 = dktX2_next_11 := dk_seg dksX2_next_10 23 rfl rfl
theorem dX2_next_0 : decode cX2_next 0 = .ok (.aload_n 0, 1) := dk_42 (dk_at dksX2_next_0 0 rfl rfl)
theorem dX2_next_1 : decode cX2_next 1 = .ok (.invokevirtual 157, 3) := dk_182 0 157 (dk_at dksX2_next_0 1 rfl rfl)
theorem dX2_next_4 : decode cX2_next 4 = .ok (.bipush 32, 2) := dk_16 32 (dk_at dksX2_next_0 4 rfl rfl)
theorem dX2_next_6 : decode cX2_next 6 = .ok (.if_icmp .eq 12, 3) := dk_159 0 12 (dk_at dksX2_next_0 6 rfl rfl)
theorem dX2_next_9 : decode cX2_next 9 = .ok (.aload_n 0, 1) := dk_42 (dk_at dksX2_next_0 9 rfl rfl)
theorem dX2_next_10 : decode cX2_next 10 = .ok (.invokevirtual 157, 3) := dk_182 0 157 (dk_at dksX2_next_0 10 rfl rfl)
theorem dX2_next_13 : decode cX2_next 13 = .ok (.bipush 10, 2) := dk_16 10 (dk_at dksX2_next_0 13 rfl rfl)
theorem dX2_next_15 : decode cX2_next 15 = .ok (.if_icmp .ne 16, 3) := dk_160 0 16 (dk_at dksX2_next_0 15 rfl rfl)
theorem dX2_next_18 : decode cX2_next 18 = .ok (.aload_n 0, 1) := dk_42 (dk_at dksX2_next_0 18 rfl rfl)
theorem dX2_next_19 : decode cX2_next 19 = .ok (.dup, 1) := dk_89 (dk_at dksX2_next_0 19 rfl rfl)
theorem dX2_next_20 : decode cX2_next 20 = .ok (.getfield 151, 3) := dk_180 0 151 (dk_at dksX2_next_0 20 rfl rfl)
theorem dX2_next_23 : decode cX2_next 23 = .ok (.iconst 1, 1) := dk_4 (dk_at dksX2_next_0 23 rfl rfl)
theorem dX2_next_24 : decode cX2_next 24 = .ok (.iadd, 1) := dk_96 (dk_at dksX2_next_1 0 rfl rfl)
theorem dX2_next_25 : decode cX2_next 25 = .ok (.putfield 151, 3) := dk_181 0 151 (dk_at dksX2_next_1 1 rfl rfl)
theorem dX2_next_28 : decode cX2_next 28 = .ok (.goto (-28), 3) := dk_167 255 228 (dk_at dksX2_next_1 4 rfl rfl)
theorem dX2_next_31 : decode cX2_next 31 = .ok (.aload_n 0, 1) := dk_42 (dk_at dksX2_next_1 7 rfl rfl)
theorem dX2_next_32 : decode cX2_next 32 = .ok (.aload_n 0, 1) := dk_42 (dk_at dksX2_next_1 8 rfl rfl)
theorem dX2_next_33 : decode cX2_next 33 = .ok (.getfield 151, 3) := dk_180 0 151 (dk_at dksX2_next_1 9 rfl rfl)
theorem dX2_next_36 : decode cX2_next 36 = .ok (.putfield 161, 3) := dk_181 0 161 (dk_at dksX2_next_1 12 rfl rfl)
theorem dX2_next_39 : decode cX2_next 39 = .ok (.aload_n 0, 1) := dk_42 (dk_at dksX2_next_1 15 rfl rfl)
theorem dX2_next_40 : decode cX2_next 40 = .ok (.invokevirtual 157, 3) := dk_182 0 157 (dk_at dksX2_next_1 16 rfl rfl)
theorem dX2_next_43 : decode cX2_next 43 = .ok (.istore_n 1, 1) := dk_60 (dk_at dksX2_next_1 19 rfl rfl)
theorem dX2_next_44 : decode cX2_next 44 = .ok (.aload_n 0, 1) := dk_42 (dk_at dksX2_next_1 20 rfl rfl)
theorem dX2_next_45 : decode cX2_next 45 = .ok (.ldc2_w 164, 3) := dk_20 0 164 (dk_at dksX2_next_1 21 rfl rfl)
theorem dX2_next_48 : decode cX2_next 48 = .ok (.putfield 166, 3) := dk_181 0 166 (dk_at dksX2_next_2 0 rfl rfl)
theorem dX2_next_51 : decode cX2_next 51 = .ok (.aload_n 0, 1) := dk_42 (dk_at dksX2_next_2 3 rfl rfl)
theorem dX2_next_52 : decode cX2_next 52 = .ok (.iconst 0, 1) := dk_3 (dk_at dksX2_next_2 4 rfl rfl)
theorem dX2_next_53 : decode cX2_next 53 = .ok (.putfield 170, 3) := dk_181 0 170 (dk_at dksX2_next_2 5 rfl rfl)
theorem dX2_next_56 : decode cX2_next 56 = .ok (.iload_n 1, 1) := dk_27 (dk_at dksX2_next_2 8 rfl rfl)
theorem dX2_next_57 : decode cX2_next 57 = .ok (.ifCond .ge 11, 3) := dk_156 0 11 (dk_at dksX2_next_2 9 rfl rfl)
theorem dX2_next_60 : decode cX2_next 60 = .ok (.aload_n 0, 1) := dk_42 (dk_at dksX2_next_2 12 rfl rfl)
theorem dX2_next_61 : decode cX2_next 61 = .ok (.iconst 0, 1) := dk_3 (dk_at dksX2_next_2 13 rfl rfl)
theorem dX2_next_62 : decode cX2_next 62 = .ok (.putfield 173, 3) := dk_181 0 173 (dk_at dksX2_next_2 14 rfl rfl)
theorem dX2_next_65 : decode cX2_next 65 = .ok (.goto 209, 3) := dk_167 0 209 (dk_at dksX2_next_2 17 rfl rfl)
theorem dX2_next_68 : decode cX2_next 68 = .ok (.iload_n 1, 1) := dk_27 (dk_at dksX2_next_2 20 rfl rfl)
theorem dX2_next_69 : decode cX2_next 69 = .ok (.bipush 97, 2) := dk_16 97 (dk_at dksX2_next_2 21 rfl rfl)
theorem dX2_next_71 : decode cX2_next 71 = .ok (.bipush 122, 2) := dk_16 122 (dk_at dksX2_next_3 0 rfl rfl)
theorem dX2_next_73 : decode cX2_next 73 = .ok (.invokestatic 176, 3) := dk_184 0 176 (dk_at dksX2_next_3 2 rfl rfl)
theorem dX2_next_76 : decode cX2_next 76 = .ok (.ifCond .eq 81, 3) := dk_153 0 81 (dk_at dksX2_next_3 5 rfl rfl)
theorem dX2_next_79 : decode cX2_next 79 = .ok (.aload_n 0, 1) := dk_42 (dk_at dksX2_next_3 8 rfl rfl)
theorem dX2_next_80 : decode cX2_next 80 = .ok (.iconst 1, 1) := dk_4 (dk_at dksX2_next_3 9 rfl rfl)
theorem dX2_next_81 : decode cX2_next 81 = .ok (.putfield 173, 3) := dk_181 0 173 (dk_at dksX2_next_3 10 rfl rfl)
theorem dX2_next_84 : decode cX2_next 84 = .ok (.aload_n 0, 1) := dk_42 (dk_at dksX2_next_3 13 rfl rfl)
theorem dX2_next_85 : decode cX2_next 85 = .ok (.lconst 0, 1) := dk_9 (dk_at dksX2_next_3 14 rfl rfl)
theorem dX2_next_86 : decode cX2_next 86 = .ok (.putfield 166, 3) := dk_181 0 166 (dk_at dksX2_next_3 15 rfl rfl)
theorem dX2_next_89 : decode cX2_next 89 = .ok (.aload_n 0, 1) := dk_42 (dk_at dksX2_next_3 18 rfl rfl)
theorem dX2_next_90 : decode cX2_next 90 = .ok (.invokevirtual 157, 3) := dk_182 0 157 (dk_at dksX2_next_3 19 rfl rfl)
theorem dX2_next_93 : decode cX2_next 93 = .ok (.bipush 97, 2) := dk_16 97 (dk_at dksX2_next_3 22 rfl rfl)
theorem dX2_next_95 : decode cX2_next 95 = .ok (.bipush 122, 2) := dk_16 122 (dk_at dksX2_next_4 0 rfl rfl)
theorem dX2_next_97 : decode cX2_next 97 = .ok (.invokestatic 176, 3) := dk_184 0 176 (dk_at dksX2_next_4 2 rfl rfl)
theorem dX2_next_100 : decode cX2_next 100 = .ok (.ifCond .eq 174, 3) := dk_153 0 174 (dk_at dksX2_next_4 5 rfl rfl)
theorem dX2_next_103 : decode cX2_next 103 = .ok (.aload_n 0, 1) := dk_42 (dk_at dksX2_next_4 8 rfl rfl)
theorem dX2_next_104 : decode cX2_next 104 = .ok (.aload_n 0, 1) := dk_42 (dk_at dksX2_next_4 9 rfl rfl)
theorem dX2_next_105 : decode cX2_next 105 = .ok (.getfield 151, 3) := dk_180 0 151 (dk_at dksX2_next_4 10 rfl rfl)
theorem dX2_next_108 : decode cX2_next 108 = .ok (.aload_n 0, 1) := dk_42 (dk_at dksX2_next_4 13 rfl rfl)
theorem dX2_next_109 : decode cX2_next 109 = .ok (.getfield 161, 3) := dk_180 0 161 (dk_at dksX2_next_4 14 rfl rfl)
theorem dX2_next_112 : decode cX2_next 112 = .ok (.isub, 1) := dk_100 (dk_at dksX2_next_4 17 rfl rfl)
theorem dX2_next_113 : decode cX2_next 113 = .ok (.bipush 8, 2) := dk_16 8 (dk_at dksX2_next_4 18 rfl rfl)
theorem dX2_next_115 : decode cX2_next 115 = .ok (.if_icmp .ge 23, 3) := dk_162 0 23 (dk_at dksX2_next_4 20 rfl rfl)
theorem dX2_next_118 : decode cX2_next 118 = .ok (.aload_n 0, 1) := dk_42 (dk_at dksX2_next_4 23 rfl rfl)
theorem dX2_next_119 : decode cX2_next 119 = .ok (.getfield 166, 3) := dk_180 0 166 (dk_at dksX2_next_5 0 rfl rfl)
theorem dX2_next_122 : decode cX2_next 122 = .ok (.ldc2_w 180, 3) := dk_20 0 180 (dk_at dksX2_next_5 3 rfl rfl)
theorem dX2_next_125 : decode cX2_next 125 = .ok (.lmul, 1) := dk_105 (dk_at dksX2_next_5 6 rfl rfl)
theorem dX2_next_126 : decode cX2_next 126 = .ok (.aload_n 0, 1) := dk_42 (dk_at dksX2_next_5 7 rfl rfl)
theorem dX2_next_127 : decode cX2_next 127 = .ok (.invokevirtual 157, 3) := dk_182 0 157 (dk_at dksX2_next_5 8 rfl rfl)
theorem dX2_next_130 : decode cX2_next 130 = .ok (.bipush 96, 2) := dk_16 96 (dk_at dksX2_next_5 11 rfl rfl)
theorem dX2_next_132 : decode cX2_next 132 = .ok (.isub, 1) := dk_100 (dk_at dksX2_next_5 13 rfl rfl)
theorem dX2_next_133 : decode cX2_next 133 = .ok (.i2l, 1) := dk_133 (dk_at dksX2_next_5 14 rfl rfl)
theorem dX2_next_134 : decode cX2_next 134 = .ok (.ladd, 1) := dk_97 (dk_at dksX2_next_5 15 rfl rfl)
theorem dX2_next_135 : decode cX2_next 135 = .ok (.goto 6, 3) := dk_167 0 6 (dk_at dksX2_next_5 16 rfl rfl)
theorem dX2_next_138 : decode cX2_next 138 = .ok (.ldc2_w 164, 3) := dk_20 0 164 (dk_at dksX2_next_5 19 rfl rfl)
theorem dX2_next_141 : decode cX2_next 141 = .ok (.putfield 166, 3) := dk_181 0 166 (dk_at dksX2_next_6 0 rfl rfl)
theorem dX2_next_144 : decode cX2_next 144 = .ok (.aload_n 0, 1) := dk_42 (dk_at dksX2_next_6 3 rfl rfl)
theorem dX2_next_145 : decode cX2_next 145 = .ok (.dup, 1) := dk_89 (dk_at dksX2_next_6 4 rfl rfl)
theorem dX2_next_146 : decode cX2_next 146 = .ok (.getfield 151, 3) := dk_180 0 151 (dk_at dksX2_next_6 5 rfl rfl)
theorem dX2_next_149 : decode cX2_next 149 = .ok (.iconst 1, 1) := dk_4 (dk_at dksX2_next_6 8 rfl rfl)
theorem dX2_next_150 : decode cX2_next 150 = .ok (.iadd, 1) := dk_96 (dk_at dksX2_next_6 9 rfl rfl)
theorem dX2_next_151 : decode cX2_next 151 = .ok (.putfield 151, 3) := dk_181 0 151 (dk_at dksX2_next_6 10 rfl rfl)
theorem dX2_next_154 : decode cX2_next 154 = .ok (.goto (-65), 3) := dk_167 255 191 (dk_at dksX2_next_6 13 rfl rfl)
theorem dX2_next_157 : decode cX2_next 157 = .ok (.iload_n 1, 1) := dk_27 (dk_at dksX2_next_6 16 rfl rfl)
theorem dX2_next_158 : decode cX2_next 158 = .ok (.bipush 48, 2) := dk_16 48 (dk_at dksX2_next_6 17 rfl rfl)
theorem dX2_next_160 : decode cX2_next 160 = .ok (.bipush 57, 2) := dk_16 57 (dk_at dksX2_next_6 19 rfl rfl)
theorem dX2_next_162 : decode cX2_next 162 = .ok (.invokestatic 176, 3) := dk_184 0 176 (dk_at dksX2_next_6 21 rfl rfl)
theorem dX2_next_165 : decode cX2_next 165 = .ok (.ifCond .eq 83, 3) := dk_153 0 83 (dk_at dksX2_next_7 0 rfl rfl)
theorem dX2_next_168 : decode cX2_next 168 = .ok (.aload_n 0, 1) := dk_42 (dk_at dksX2_next_7 3 rfl rfl)
theorem dX2_next_169 : decode cX2_next 169 = .ok (.invokevirtual 157, 3) := dk_182 0 157 (dk_at dksX2_next_7 4 rfl rfl)
theorem dX2_next_172 : decode cX2_next 172 = .ok (.bipush 48, 2) := dk_16 48 (dk_at dksX2_next_7 7 rfl rfl)
theorem dX2_next_174 : decode cX2_next 174 = .ok (.bipush 57, 2) := dk_16 57 (dk_at dksX2_next_7 9 rfl rfl)
theorem dX2_next_176 : decode cX2_next 176 = .ok (.invokestatic 176, 3) := dk_184 0 176 (dk_at dksX2_next_7 11 rfl rfl)
theorem dX2_next_179 : decode cX2_next 179 = .ok (.ifCond .eq 44, 3) := dk_153 0 44 (dk_at dksX2_next_7 14 rfl rfl)
theorem dX2_next_182 : decode cX2_next 182 = .ok (.aload_n 0, 1) := dk_42 (dk_at dksX2_next_7 17 rfl rfl)
theorem dX2_next_183 : decode cX2_next 183 = .ok (.getfield 170, 3) := dk_180 0 170 (dk_at dksX2_next_7 18 rfl rfl)
theorem dX2_next_186 : decode cX2_next 186 = .ok (.ldc 182, 2) := dk_18 182 (dk_at dksX2_next_7 21 rfl rfl)
theorem dX2_next_188 : decode cX2_next 188 = .ok (.if_icmp .ge 22, 3) := dk_162 0 22 (dk_at dksX2_next_8 0 rfl rfl)
theorem dX2_next_191 : decode cX2_next 191 = .ok (.aload_n 0, 1) := dk_42 (dk_at dksX2_next_8 3 rfl rfl)
theorem dX2_next_192 : decode cX2_next 192 = .ok (.bipush 10, 2) := dk_16 10 (dk_at dksX2_next_8 4 rfl rfl)
theorem dX2_next_194 : decode cX2_next 194 = .ok (.aload_n 0, 1) := dk_42 (dk_at dksX2_next_8 6 rfl rfl)
theorem dX2_next_195 : decode cX2_next 195 = .ok (.getfield 170, 3) := dk_180 0 170 (dk_at dksX2_next_8 7 rfl rfl)
theorem dX2_next_198 : decode cX2_next 198 = .ok (.imul, 1) := dk_104 (dk_at dksX2_next_8 10 rfl rfl)
theorem dX2_next_199 : decode cX2_next 199 = .ok (.aload_n 0, 1) := dk_42 (dk_at dksX2_next_8 11 rfl rfl)
theorem dX2_next_200 : decode cX2_next 200 = .ok (.invokevirtual 157, 3) := dk_182 0 157 (dk_at dksX2_next_8 12 rfl rfl)
theorem dX2_next_203 : decode cX2_next 203 = .ok (.iadd, 1) := dk_96 (dk_at dksX2_next_8 15 rfl rfl)
theorem dX2_next_204 : decode cX2_next 204 = .ok (.bipush 48, 2) := dk_16 48 (dk_at dksX2_next_8 16 rfl rfl)
theorem dX2_next_206 : decode cX2_next 206 = .ok (.isub, 1) := dk_100 (dk_at dksX2_next_8 18 rfl rfl)
theorem dX2_next_207 : decode cX2_next 207 = .ok (.putfield 170, 3) := dk_181 0 170 (dk_at dksX2_next_8 19 rfl rfl)
theorem dX2_next_210 : decode cX2_next 210 = .ok (.aload_n 0, 1) := dk_42 (dk_at dksX2_next_8 22 rfl rfl)
theorem dX2_next_211 : decode cX2_next 211 = .ok (.dup, 1) := dk_89 (dk_at dksX2_next_8 23 rfl rfl)
theorem dX2_next_212 : decode cX2_next 212 = .ok (.getfield 151, 3) := dk_180 0 151 (dk_at dksX2_next_9 0 rfl rfl)
theorem dX2_next_215 : decode cX2_next 215 = .ok (.iconst 1, 1) := dk_4 (dk_at dksX2_next_9 3 rfl rfl)
theorem dX2_next_216 : decode cX2_next 216 = .ok (.iadd, 1) := dk_96 (dk_at dksX2_next_9 4 rfl rfl)
theorem dX2_next_217 : decode cX2_next 217 = .ok (.putfield 151, 3) := dk_181 0 151 (dk_at dksX2_next_9 5 rfl rfl)
theorem dX2_next_220 : decode cX2_next 220 = .ok (.goto (-52), 3) := dk_167 255 204 (dk_at dksX2_next_9 8 rfl rfl)
theorem dX2_next_223 : decode cX2_next 223 = .ok (.aload_n 0, 1) := dk_42 (dk_at dksX2_next_9 11 rfl rfl)
theorem dX2_next_224 : decode cX2_next 224 = .ok (.aload_n 0, 1) := dk_42 (dk_at dksX2_next_9 12 rfl rfl)
theorem dX2_next_225 : decode cX2_next 225 = .ok (.getfield 151, 3) := dk_180 0 151 (dk_at dksX2_next_9 13 rfl rfl)
theorem dX2_next_228 : decode cX2_next 228 = .ok (.aload_n 0, 1) := dk_42 (dk_at dksX2_next_9 16 rfl rfl)
theorem dX2_next_229 : decode cX2_next 229 = .ok (.getfield 161, 3) := dk_180 0 161 (dk_at dksX2_next_9 17 rfl rfl)
theorem dX2_next_232 : decode cX2_next 232 = .ok (.isub, 1) := dk_100 (dk_at dksX2_next_9 20 rfl rfl)
theorem dX2_next_233 : decode cX2_next 233 = .ok (.iconst 4, 1) := dk_7 (dk_at dksX2_next_9 21 rfl rfl)
theorem dX2_next_234 : decode cX2_next 234 = .ok (.if_icmp .gt 7, 3) := dk_163 0 7 (dk_at dksX2_next_10 0 rfl rfl)
theorem dX2_next_237 : decode cX2_next 237 = .ok (.iconst 2, 1) := dk_5 (dk_at dksX2_next_10 3 rfl rfl)
theorem dX2_next_238 : decode cX2_next 238 = .ok (.goto 4, 3) := dk_167 0 4 (dk_at dksX2_next_10 4 rfl rfl)
theorem dX2_next_241 : decode cX2_next 241 = .ok (.iconst 3, 1) := dk_6 (dk_at dksX2_next_10 7 rfl rfl)
theorem dX2_next_242 : decode cX2_next 242 = .ok (.putfield 173, 3) := dk_181 0 173 (dk_at dksX2_next_10 8 rfl rfl)
theorem dX2_next_245 : decode cX2_next 245 = .ok (.goto 29, 3) := dk_167 0 29 (dk_at dksX2_next_10 11 rfl rfl)
theorem dX2_next_248 : decode cX2_next 248 = .ok (.aload_n 0, 1) := dk_42 (dk_at dksX2_next_10 14 rfl rfl)
theorem dX2_next_249 : decode cX2_next 249 = .ok (.iload_n 1, 1) := dk_27 (dk_at dksX2_next_10 15 rfl rfl)
theorem dX2_next_250 : decode cX2_next 250 = .ok (.bipush 59, 2) := dk_16 59 (dk_at dksX2_next_10 16 rfl rfl)
theorem dX2_next_252 : decode cX2_next 252 = .ok (.if_icmp .ne 8, 3) := dk_160 0 8 (dk_at dksX2_next_10 18 rfl rfl)
theorem dX2_next_255 : decode cX2_next 255 = .ok (.bipush 59, 2) := dk_16 59 (dk_at dksX2_next_10 21 rfl rfl)
theorem dX2_next_257 : decode cX2_next 257 = .ok (.goto 4, 3) := dk_167 0 4 (dk_at dksX2_next_11 0 rfl rfl)
theorem dX2_next_260 : decode cX2_next 260 = .ok (.iconst 3, 1) := dk_6 (dk_at dksX2_next_11 3 rfl rfl)
theorem dX2_next_261 : decode cX2_next 261 = .ok (.putfield 173, 3) := dk_181 0 173 (dk_at dksX2_next_11 4 rfl rfl)
theorem dX2_next_264 : decode cX2_next 264 = .ok (.aload_n 0, 1) := dk_42 (dk_at dksX2_next_11 7 rfl rfl)
theorem dX2_next_265 : decode cX2_next 265 = .ok (.dup, 1) := dk_89 (dk_at dksX2_next_11 8 rfl rfl)
theorem dX2_next_266 : decode cX2_next 266 = .ok (.getfield 151, 3) := dk_180 0 151 (dk_at dksX2_next_11 9 rfl rfl)
theorem dX2_next_269 : decode cX2_next 269 = .ok (.iconst 1, 1) := dk_4 (dk_at dksX2_next_11 12 rfl rfl)
theorem dX2_next_270 : decode cX2_next 270 = .ok (.iadd, 1) := dk_96 (dk_at dksX2_next_11 13 rfl rfl)
theorem dX2_next_271 : decode cX2_next 271 = .ok (.putfield 151, 3) := dk_181 0 151 (dk_at dksX2_next_11 14 rfl rfl)
theorem dX2_next_274 : decode cX2_next 274 = .ok (.return_, 1) := dk_177 (dk_at dksX2_next_11 17 rfl rfl)
abbrev cX2_here : ByteArray := prog_23_method_5_code
def yX2_here : MethodName := ⟨RX2, "here", "()I"⟩
def dkwX2_here_1 : List UInt8 := [167, 0, 4, 2, 172]
abbrev dktX2_here_1 : List UInt8 := dkwX2_here_1 ++ []
def dkwX2_here_0 : List UInt8 := [42, 180, 0, 151, 42, 180, 0, 154, 162, 0, 19, 42, 180, 0, 58, 42, 180, 0, 151, 51, 17, 0, 255, 126]
abbrev dktX2_here_0 : List UInt8 := dkwX2_here_0 ++ dktX2_here_1
theorem dksX2_here_0 : cX2_here.data.toList.drop 0 = dktX2_here_0 := by decide +kernel
theorem dksX2_here_1 : cX2_here.data.toList.drop 24 = dktX2_here_1 := dk_seg dksX2_here_0 24 rfl rfl
theorem dX2_here_0 : decode cX2_here 0 = .ok (.aload_n 0, 1) := dk_42 (dk_at dksX2_here_0 0 rfl rfl)
theorem dX2_here_1 : decode cX2_here 1 = .ok (.getfield 151, 3) := dk_180 0 151 (dk_at dksX2_here_0 1 rfl rfl)
theorem dX2_here_4 : decode cX2_here 4 = .ok (.aload_n 0, 1) := dk_42 (dk_at dksX2_here_0 4 rfl rfl)
theorem dX2_here_5 : decode cX2_here 5 = .ok (.getfield 154, 3) := dk_180 0 154 (dk_at dksX2_here_0 5 rfl rfl)
theorem dX2_here_8 : decode cX2_here 8 = .ok (.if_icmp .ge 19, 3) := dk_162 0 19 (dk_at dksX2_here_0 8 rfl rfl)
theorem dX2_here_11 : decode cX2_here 11 = .ok (.aload_n 0, 1) := dk_42 (dk_at dksX2_here_0 11 rfl rfl)
theorem dX2_here_12 : decode cX2_here 12 = .ok (.getfield 58, 3) := dk_180 0 58 (dk_at dksX2_here_0 12 rfl rfl)
theorem dX2_here_15 : decode cX2_here 15 = .ok (.aload_n 0, 1) := dk_42 (dk_at dksX2_here_0 15 rfl rfl)
theorem dX2_here_16 : decode cX2_here 16 = .ok (.getfield 151, 3) := dk_180 0 151 (dk_at dksX2_here_0 16 rfl rfl)
theorem dX2_here_19 : decode cX2_here 19 = .ok (.baload, 1) := dk_51 (dk_at dksX2_here_0 19 rfl rfl)
theorem dX2_here_20 : decode cX2_here 20 = .ok (.sipush 255, 3) := dk_17 0 255 (dk_at dksX2_here_0 20 rfl rfl)
theorem dX2_here_23 : decode cX2_here 23 = .ok (.iand, 1) := dk_126 (dk_at dksX2_here_0 23 rfl rfl)
theorem dX2_here_24 : decode cX2_here 24 = .ok (.goto 4, 3) := dk_167 0 4 (dk_at dksX2_here_1 0 rfl rfl)
theorem dX2_here_27 : decode cX2_here 27 = .ok (.iconst (-1), 1) := dk_2 (dk_at dksX2_here_1 3 rfl rfl)
theorem dX2_here_28 : decode cX2_here 28 = .ok (.ireturn, 1) := dk_172 (dk_at dksX2_here_1 4 rfl rfl)
abbrev cX2_within : ByteArray := prog_23_method_3_code
def yX2_within : MethodName := ⟨RX2, "within", "(III)Z"⟩
def dkwX2_within_0 : List UInt8 := [26, 27, 161, 0, 12, 26, 28, 163, 0, 7, 4, 167, 0, 4, 3, 172]
abbrev dktX2_within_0 : List UInt8 := dkwX2_within_0 ++ []
theorem dksX2_within_0 : cX2_within.data.toList.drop 0 = dktX2_within_0 := by decide +kernel
theorem dX2_within_0 : decode cX2_within 0 = .ok (.iload_n 0, 1) := dk_26 (dk_at dksX2_within_0 0 rfl rfl)
theorem dX2_within_1 : decode cX2_within 1 = .ok (.iload_n 1, 1) := dk_27 (dk_at dksX2_within_0 1 rfl rfl)
theorem dX2_within_2 : decode cX2_within 2 = .ok (.if_icmp .lt 12, 3) := dk_161 0 12 (dk_at dksX2_within_0 2 rfl rfl)
theorem dX2_within_5 : decode cX2_within 5 = .ok (.iload_n 0, 1) := dk_26 (dk_at dksX2_within_0 5 rfl rfl)
theorem dX2_within_6 : decode cX2_within 6 = .ok (.iload_n 2, 1) := dk_28 (dk_at dksX2_within_0 6 rfl rfl)
theorem dX2_within_7 : decode cX2_within 7 = .ok (.if_icmp .gt 7, 3) := dk_163 0 7 (dk_at dksX2_within_0 7 rfl rfl)
theorem dX2_within_10 : decode cX2_within 10 = .ok (.iconst 1, 1) := dk_4 (dk_at dksX2_within_0 10 rfl rfl)
theorem dX2_within_11 : decode cX2_within 11 = .ok (.goto 4, 3) := dk_167 0 4 (dk_at dksX2_within_0 11 rfl rfl)
theorem dX2_within_14 : decode cX2_within 14 = .ok (.iconst 0, 1) := dk_3 (dk_at dksX2_within_0 14 rfl rfl)
theorem dX2_within_15 : decode cX2_within 15 = .ok (.ireturn, 1) := dk_172 (dk_at dksX2_within_0 15 rfl rfl)
abbrev cX2_readSayings : ByteArray := prog_23_method_23_code
def yX2_readSayings : MethodName := ⟨RX2, "readSayings", "(II)I"⟩
def dkwX2_readSayings_2 : List UInt8 := [167, 0, 4, 29, 172]
abbrev dktX2_readSayings_2 : List UInt8 := dkwX2_readSayings_2 ++ []
def dkwX2_readSayings_1 : List UInt8 := [154, 0, 15, 42, 27, 29, 182, 1, 33, 132, 3, 1, 167, 255, 233, 42, 180, 0, 183, 153, 0, 7, 2]
abbrev dktX2_readSayings_1 : List UInt8 := dkwX2_readSayings_1 ++ dktX2_readSayings_2
def dkwX2_readSayings_0 : List UInt8 := [28, 62, 42, 180, 0, 173, 154, 0, 7, 42, 182, 0, 194, 42, 180, 0, 173, 153, 0, 22, 42, 180, 0, 183]
abbrev dktX2_readSayings_0 : List UInt8 := dkwX2_readSayings_0 ++ dktX2_readSayings_1
theorem dksX2_readSayings_0 : cX2_readSayings.data.toList.drop 0 = dktX2_readSayings_0 := by decide +kernel
theorem dksX2_readSayings_1 : cX2_readSayings.data.toList.drop 24 = dktX2_readSayings_1 := dk_seg dksX2_readSayings_0 24 rfl rfl
theorem dksX2_readSayings_2 : cX2_readSayings.data.toList.drop 47 = dktX2_readSayings_2 := dk_seg dksX2_readSayings_1 23 rfl rfl
theorem dX2_readSayings_0 : decode cX2_readSayings 0 = .ok (.iload_n 2, 1) := dk_28 (dk_at dksX2_readSayings_0 0 rfl rfl)
theorem dX2_readSayings_1 : decode cX2_readSayings 1 = .ok (.istore_n 3, 1) := dk_62 (dk_at dksX2_readSayings_0 1 rfl rfl)
theorem dX2_readSayings_2 : decode cX2_readSayings 2 = .ok (.aload_n 0, 1) := dk_42 (dk_at dksX2_readSayings_0 2 rfl rfl)
theorem dX2_readSayings_3 : decode cX2_readSayings 3 = .ok (.getfield 173, 3) := dk_180 0 173 (dk_at dksX2_readSayings_0 3 rfl rfl)
theorem dX2_readSayings_6 : decode cX2_readSayings 6 = .ok (.ifCond .ne 7, 3) := dk_154 0 7 (dk_at dksX2_readSayings_0 6 rfl rfl)
theorem dX2_readSayings_9 : decode cX2_readSayings 9 = .ok (.aload_n 0, 1) := dk_42 (dk_at dksX2_readSayings_0 9 rfl rfl)
theorem dX2_readSayings_10 : decode cX2_readSayings 10 = .ok (.invokevirtual 194, 3) := dk_182 0 194 (dk_at dksX2_readSayings_0 10 rfl rfl)
theorem dX2_readSayings_13 : decode cX2_readSayings 13 = .ok (.aload_n 0, 1) := dk_42 (dk_at dksX2_readSayings_0 13 rfl rfl)
theorem dX2_readSayings_14 : decode cX2_readSayings 14 = .ok (.getfield 173, 3) := dk_180 0 173 (dk_at dksX2_readSayings_0 14 rfl rfl)
theorem dX2_readSayings_17 : decode cX2_readSayings 17 = .ok (.ifCond .eq 22, 3) := dk_153 0 22 (dk_at dksX2_readSayings_0 17 rfl rfl)
theorem dX2_readSayings_20 : decode cX2_readSayings 20 = .ok (.aload_n 0, 1) := dk_42 (dk_at dksX2_readSayings_0 20 rfl rfl)
theorem dX2_readSayings_21 : decode cX2_readSayings 21 = .ok (.getfield 183, 3) := dk_180 0 183 (dk_at dksX2_readSayings_0 21 rfl rfl)
theorem dX2_readSayings_24 : decode cX2_readSayings 24 = .ok (.ifCond .ne 15, 3) := dk_154 0 15 (dk_at dksX2_readSayings_1 0 rfl rfl)
theorem dX2_readSayings_27 : decode cX2_readSayings 27 = .ok (.aload_n 0, 1) := dk_42 (dk_at dksX2_readSayings_1 3 rfl rfl)
theorem dX2_readSayings_28 : decode cX2_readSayings 28 = .ok (.iload_n 1, 1) := dk_27 (dk_at dksX2_readSayings_1 4 rfl rfl)
theorem dX2_readSayings_29 : decode cX2_readSayings 29 = .ok (.iload_n 3, 1) := dk_29 (dk_at dksX2_readSayings_1 5 rfl rfl)
theorem dX2_readSayings_30 : decode cX2_readSayings 30 = .ok (.invokevirtual 289, 3) := dk_182 1 33 (dk_at dksX2_readSayings_1 6 rfl rfl)
theorem dX2_readSayings_33 : decode cX2_readSayings 33 = .ok (.iinc 3 1, 3) := dk_132 3 1 (dk_at dksX2_readSayings_1 9 rfl rfl)
theorem dX2_readSayings_36 : decode cX2_readSayings 36 = .ok (.goto (-23), 3) := dk_167 255 233 (dk_at dksX2_readSayings_1 12 rfl rfl)
theorem dX2_readSayings_39 : decode cX2_readSayings 39 = .ok (.aload_n 0, 1) := dk_42 (dk_at dksX2_readSayings_1 15 rfl rfl)
theorem dX2_readSayings_40 : decode cX2_readSayings 40 = .ok (.getfield 183, 3) := dk_180 0 183 (dk_at dksX2_readSayings_1 16 rfl rfl)
theorem dX2_readSayings_43 : decode cX2_readSayings 43 = .ok (.ifCond .eq 7, 3) := dk_153 0 7 (dk_at dksX2_readSayings_1 19 rfl rfl)
theorem dX2_readSayings_46 : decode cX2_readSayings 46 = .ok (.iconst (-1), 1) := dk_2 (dk_at dksX2_readSayings_1 22 rfl rfl)
theorem dX2_readSayings_47 : decode cX2_readSayings 47 = .ok (.goto 4, 3) := dk_167 0 4 (dk_at dksX2_readSayings_2 0 rfl rfl)
theorem dX2_readSayings_50 : decode cX2_readSayings 50 = .ok (.iload_n 3, 1) := dk_29 (dk_at dksX2_readSayings_2 3 rfl rfl)
theorem dX2_readSayings_51 : decode cX2_readSayings 51 = .ok (.ireturn, 1) := dk_172 (dk_at dksX2_readSayings_2 4 rfl rfl)
abbrev cX2_errs : ByteArray := prog_23_method_7_code
def yX2_errs : MethodName := ⟨RX2, "errs", "()V"⟩
def dkwX2_errs_0 : List UInt8 := [42, 180, 0, 183, 153, 0, 4, 177, 42, 4, 181, 0, 183, 42, 42, 180, 0, 161, 181, 0, 62, 177]
abbrev dktX2_errs_0 : List UInt8 := dkwX2_errs_0 ++ []
theorem dksX2_errs_0 : cX2_errs.data.toList.drop 0 = dktX2_errs_0 := by decide +kernel
theorem dX2_errs_0 : decode cX2_errs 0 = .ok (.aload_n 0, 1) := dk_42 (dk_at dksX2_errs_0 0 rfl rfl)
theorem dX2_errs_1 : decode cX2_errs 1 = .ok (.getfield 183, 3) := dk_180 0 183 (dk_at dksX2_errs_0 1 rfl rfl)
theorem dX2_errs_4 : decode cX2_errs 4 = .ok (.ifCond .eq 4, 3) := dk_153 0 4 (dk_at dksX2_errs_0 4 rfl rfl)
theorem dX2_errs_7 : decode cX2_errs 7 = .ok (.return_, 1) := dk_177 (dk_at dksX2_errs_0 7 rfl rfl)
theorem dX2_errs_8 : decode cX2_errs 8 = .ok (.aload_n 0, 1) := dk_42 (dk_at dksX2_errs_0 8 rfl rfl)
theorem dX2_errs_9 : decode cX2_errs 9 = .ok (.iconst 1, 1) := dk_4 (dk_at dksX2_errs_0 9 rfl rfl)
theorem dX2_errs_10 : decode cX2_errs 10 = .ok (.putfield 183, 3) := dk_181 0 183 (dk_at dksX2_errs_0 10 rfl rfl)
theorem dX2_errs_13 : decode cX2_errs 13 = .ok (.aload_n 0, 1) := dk_42 (dk_at dksX2_errs_0 13 rfl rfl)
theorem dX2_errs_14 : decode cX2_errs 14 = .ok (.aload_n 0, 1) := dk_42 (dk_at dksX2_errs_0 14 rfl rfl)
theorem dX2_errs_15 : decode cX2_errs 15 = .ok (.getfield 161, 3) := dk_180 0 161 (dk_at dksX2_errs_0 15 rfl rfl)
theorem dX2_errs_18 : decode cX2_errs 18 = .ok (.putfield 62, 3) := dk_181 0 62 (dk_at dksX2_errs_0 18 rfl rfl)
theorem dX2_errs_21 : decode cX2_errs 21 = .ok (.return_, 1) := dk_177 (dk_at dksX2_errs_0 21 rfl rfl)
abbrev cX2_readSaying : ByteArray := prog_23_method_22_code
def yX2_readSaying : MethodName := ⟨RX2, "readSaying", "(II)V"⟩
def dkwX2_readSaying_13 : List UInt8 := [29, 46, 96, 46, 79, 42, 29, 4, 182, 1, 16, 42, 29, 182, 1, 26, 42, 182, 1, 30, 177]
abbrev dktX2_readSaying_13 : List UInt8 := dkwX2_readSaying_13 ++ []
def dkwX2_readSaying_12 : List UInt8 := [42, 180, 0, 22, 29, 6, 79, 42, 180, 0, 28, 29, 42, 180, 0, 25, 16, 12, 27, 104, 42, 180, 0, 31]
abbrev dktX2_readSaying_12 : List UInt8 := dkwX2_readSaying_12 ++ dktX2_readSaying_13
def dkwX2_readSaying_11 : List UInt8 := [182, 0, 232, 79, 21, 4, 5, 160, 0, 52, 42, 20, 1, 24, 182, 0, 187, 153, 0, 42, 42, 182, 0, 191]
abbrev dktX2_readSaying_11 : List UInt8 := dkwX2_readSaying_11 ++ dktX2_readSaying_12
def dkwX2_readSaying_10 : List UInt8 := [42, 20, 1, 22, 182, 0, 187, 153, 0, 21, 42, 182, 0, 191, 42, 180, 0, 40, 29, 42, 3, 27, 4, 100]
abbrev dktX2_readSaying_10 : List UInt8 := dkwX2_readSaying_10 ++ dktX2_readSaying_11
def dkwX2_readSaying_9 : List UInt8 := [182, 0, 187, 153, 0, 21, 42, 182, 0, 191, 42, 180, 0, 37, 29, 42, 3, 17, 7, 207, 182, 0, 232, 79]
abbrev dktX2_readSaying_9 : List UInt8 := dkwX2_readSaying_9 ++ dktX2_readSaying_10
def dkwX2_readSaying_8 : List UInt8 := [180, 0, 25, 29, 46, 182, 1, 12, 79, 21, 4, 154, 0, 65, 42, 29, 3, 182, 1, 16, 42, 20, 1, 20]
abbrev dktX2_readSaying_8 : List UInt8 := dkwX2_readSaying_8 ++ dktX2_readSaying_9
def dkwX2_readSaying_7 : List UInt8 := [180, 0, 25, 29, 46, 182, 1, 8, 79, 167, 0, 23, 42, 180, 0, 31, 29, 42, 27, 28, 21, 4, 42]
abbrev dktX2_readSaying_7 : List UInt8 := dkwX2_readSaying_7 ++ dktX2_readSaying_8
def dkwX2_readSaying_6 : List UInt8 := [42, 180, 0, 25, 29, 42, 2, 182, 1, 8, 79, 21, 4, 5, 162, 0, 22, 42, 180, 0, 28, 29, 42, 42]
abbrev dktX2_readSaying_6 : List UInt8 := dkwX2_readSaying_6 ++ dktX2_readSaying_7
def dkwX2_readSaying_5 : List UInt8 := [104, 21, 5, 96, 3, 79, 42, 180, 0, 52, 6, 29, 104, 21, 5, 96, 3, 79, 132, 5, 1, 167, 255, 223]
abbrev dktX2_readSaying_5 : List UInt8 := dkwX2_readSaying_5 ++ dktX2_readSaying_6
def dkwX2_readSaying_4 : List UInt8 := [96, 2, 79, 132, 5, 1, 167, 255, 235, 3, 54, 5, 21, 5, 6, 162, 0, 33, 42, 180, 0, 49, 6, 29]
abbrev dktX2_readSaying_4 : List UInt8 := dkwX2_readSaying_4 ++ dktX2_readSaying_5
def dkwX2_readSaying_3 : List UInt8 := [180, 0, 43, 29, 3, 79, 3, 54, 5, 21, 5, 8, 162, 0, 21, 42, 180, 0, 46, 8, 29, 104, 21, 5]
abbrev dktX2_readSaying_3 : List UInt8 := dkwX2_readSaying_3 ++ dktX2_readSaying_4
def dkwX2_readSaying_2 : List UInt8 := [42, 180, 0, 31, 29, 2, 79, 42, 180, 0, 37, 29, 2, 79, 42, 180, 0, 40, 29, 2, 79, 42]
abbrev dktX2_readSaying_2 : List UInt8 := dkwX2_readSaying_2 ++ dktX2_readSaying_3
def dkwX2_readSaying_1 : List UInt8 := [42, 182, 0, 194, 177, 42, 182, 0, 191, 42, 180, 0, 22, 29, 21, 4, 79, 42, 180, 0, 28, 29, 2, 79]
abbrev dktX2_readSaying_1 : List UInt8 := dkwX2_readSaying_1 ++ dktX2_readSaying_2
def dkwX2_readSaying_0 : List UInt8 := [16, 12, 27, 104, 28, 96, 62, 42, 182, 1, 5, 54, 4, 21, 4, 155, 0, 9, 28, 16, 12, 160, 0, 8]
abbrev dktX2_readSaying_0 : List UInt8 := dkwX2_readSaying_0 ++ dktX2_readSaying_1
theorem dksX2_readSaying_0 : cX2_readSaying.data.toList.drop 0 = dktX2_readSaying_0 := by decide +kernel
theorem dksX2_readSaying_1 : cX2_readSaying.data.toList.drop 24 = dktX2_readSaying_1 := dk_seg dksX2_readSaying_0 24 rfl rfl
theorem dksX2_readSaying_2 : cX2_readSaying.data.toList.drop 48 = dktX2_readSaying_2 := dk_seg dksX2_readSaying_1 24 rfl rfl
theorem dksX2_readSaying_3 : cX2_readSaying.data.toList.drop 70 = dktX2_readSaying_3 := dk_seg dksX2_readSaying_2 22 rfl rfl
theorem dksX2_readSaying_4 : cX2_readSaying.data.toList.drop 94 = dktX2_readSaying_4 := dk_seg dksX2_readSaying_3 24 rfl rfl
theorem dksX2_readSaying_5 : cX2_readSaying.data.toList.drop 118 = dktX2_readSaying_5 := dk_seg dksX2_readSaying_4 24 rfl rfl
theorem dksX2_readSaying_6 : cX2_readSaying.data.toList.drop 142 = dktX2_readSaying_6 := dk_seg dksX2_readSaying_5 24 rfl rfl
theorem dksX2_readSaying_7 : cX2_readSaying.data.toList.drop 166 = dktX2_readSaying_7 := dk_seg dksX2_readSaying_6 24 rfl rfl
theorem dksX2_readSaying_8 : cX2_readSaying.data.toList.drop 189 = dktX2_readSaying_8 := dk_seg dksX2_readSaying_7 23 rfl rfl
theorem dksX2_readSaying_9 : cX2_readSaying.data.toList.drop 213 = dktX2_readSaying_9 := dk_seg dksX2_readSaying_8 24 rfl rfl
theorem dksX2_readSaying_10 : cX2_readSaying.data.toList.drop 237 = dktX2_readSaying_10 := dk_seg dksX2_readSaying_9 24 rfl rfl
theorem dksX2_readSaying_11 : cX2_readSaying.data.toList.drop 261 = dktX2_readSaying_11 := dk_seg dksX2_readSaying_10 24 rfl rfl
theorem dksX2_readSaying_12 : cX2_readSaying.data.toList.drop 285 = dktX2_readSaying_12 := dk_seg dksX2_readSaying_11 24 rfl rfl
theorem dksX2_readSaying_13 : cX2_readSaying.data.toList.drop 309 = dktX2_readSaying_13 := dk_seg dksX2_readSaying_12 24 rfl rfl
theorem dX2_readSaying_0 : decode cX2_readSaying 0 = .ok (.bipush 12, 2) := dk_16 12 (dk_at dksX2_readSaying_0 0 rfl rfl)
theorem dX2_readSaying_2 : decode cX2_readSaying 2 = .ok (.iload_n 1, 1) := dk_27 (dk_at dksX2_readSaying_0 2 rfl rfl)
theorem dX2_readSaying_3 : decode cX2_readSaying 3 = .ok (.imul, 1) := dk_104 (dk_at dksX2_readSaying_0 3 rfl rfl)
theorem dX2_readSaying_4 : decode cX2_readSaying 4 = .ok (.iload_n 2, 1) := dk_28 (dk_at dksX2_readSaying_0 4 rfl rfl)
theorem dX2_readSaying_5 : decode cX2_readSaying 5 = .ok (.iadd, 1) := dk_96 (dk_at dksX2_readSaying_0 5 rfl rfl)
theorem dX2_readSaying_6 : decode cX2_readSaying 6 = .ok (.istore_n 3, 1) := dk_62 (dk_at dksX2_readSaying_0 6 rfl rfl)
theorem dX2_readSaying_7 : decode cX2_readSaying 7 = .ok (.aload_n 0, 1) := dk_42 (dk_at dksX2_readSaying_0 7 rfl rfl)
theorem dX2_readSaying_8 : decode cX2_readSaying 8 = .ok (.invokevirtual 261, 3) := dk_182 1 5 (dk_at dksX2_readSaying_0 8 rfl rfl)
theorem dX2_readSaying_11 : decode cX2_readSaying 11 = .ok (.istore 4, 2) := dk_54 4 (dk_at dksX2_readSaying_0 11 rfl rfl)
theorem dX2_readSaying_13 : decode cX2_readSaying 13 = .ok (.iload 4, 2) := dk_21 4 (dk_at dksX2_readSaying_0 13 rfl rfl)
theorem dX2_readSaying_15 : decode cX2_readSaying 15 = .ok (.ifCond .lt 9, 3) := dk_155 0 9 (dk_at dksX2_readSaying_0 15 rfl rfl)
theorem dX2_readSaying_18 : decode cX2_readSaying 18 = .ok (.iload_n 2, 1) := dk_28 (dk_at dksX2_readSaying_0 18 rfl rfl)
theorem dX2_readSaying_19 : decode cX2_readSaying 19 = .ok (.bipush 12, 2) := dk_16 12 (dk_at dksX2_readSaying_0 19 rfl rfl)
theorem dX2_readSaying_21 : decode cX2_readSaying 21 = .ok (.if_icmp .ne 8, 3) := dk_160 0 8 (dk_at dksX2_readSaying_0 21 rfl rfl)
theorem dX2_readSaying_24 : decode cX2_readSaying 24 = .ok (.aload_n 0, 1) := dk_42 (dk_at dksX2_readSaying_1 0 rfl rfl)
theorem dX2_readSaying_25 : decode cX2_readSaying 25 = .ok (.invokevirtual 194, 3) := dk_182 0 194 (dk_at dksX2_readSaying_1 1 rfl rfl)
theorem dX2_readSaying_28 : decode cX2_readSaying 28 = .ok (.return_, 1) := dk_177 (dk_at dksX2_readSaying_1 4 rfl rfl)
theorem dX2_readSaying_29 : decode cX2_readSaying 29 = .ok (.aload_n 0, 1) := dk_42 (dk_at dksX2_readSaying_1 5 rfl rfl)
theorem dX2_readSaying_30 : decode cX2_readSaying 30 = .ok (.invokevirtual 191, 3) := dk_182 0 191 (dk_at dksX2_readSaying_1 6 rfl rfl)
theorem dX2_readSaying_33 : decode cX2_readSaying 33 = .ok (.aload_n 0, 1) := dk_42 (dk_at dksX2_readSaying_1 9 rfl rfl)
theorem dX2_readSaying_34 : decode cX2_readSaying 34 = .ok (.getfield 22, 3) := dk_180 0 22 (dk_at dksX2_readSaying_1 10 rfl rfl)
theorem dX2_readSaying_37 : decode cX2_readSaying 37 = .ok (.iload_n 3, 1) := dk_29 (dk_at dksX2_readSaying_1 13 rfl rfl)
theorem dX2_readSaying_38 : decode cX2_readSaying 38 = .ok (.iload 4, 2) := dk_21 4 (dk_at dksX2_readSaying_1 14 rfl rfl)
theorem dX2_readSaying_40 : decode cX2_readSaying 40 = .ok (.iastore, 1) := dk_79 (dk_at dksX2_readSaying_1 16 rfl rfl)
theorem dX2_readSaying_41 : decode cX2_readSaying 41 = .ok (.aload_n 0, 1) := dk_42 (dk_at dksX2_readSaying_1 17 rfl rfl)
theorem dX2_readSaying_42 : decode cX2_readSaying 42 = .ok (.getfield 28, 3) := dk_180 0 28 (dk_at dksX2_readSaying_1 18 rfl rfl)
theorem dX2_readSaying_45 : decode cX2_readSaying 45 = .ok (.iload_n 3, 1) := dk_29 (dk_at dksX2_readSaying_1 21 rfl rfl)
theorem dX2_readSaying_46 : decode cX2_readSaying 46 = .ok (.iconst (-1), 1) := dk_2 (dk_at dksX2_readSaying_1 22 rfl rfl)
theorem dX2_readSaying_47 : decode cX2_readSaying 47 = .ok (.iastore, 1) := dk_79 (dk_at dksX2_readSaying_1 23 rfl rfl)
theorem dX2_readSaying_48 : decode cX2_readSaying 48 = .ok (.aload_n 0, 1) := dk_42 (dk_at dksX2_readSaying_2 0 rfl rfl)
theorem dX2_readSaying_49 : decode cX2_readSaying 49 = .ok (.getfield 31, 3) := dk_180 0 31 (dk_at dksX2_readSaying_2 1 rfl rfl)
theorem dX2_readSaying_52 : decode cX2_readSaying 52 = .ok (.iload_n 3, 1) := dk_29 (dk_at dksX2_readSaying_2 4 rfl rfl)
theorem dX2_readSaying_53 : decode cX2_readSaying 53 = .ok (.iconst (-1), 1) := dk_2 (dk_at dksX2_readSaying_2 5 rfl rfl)
theorem dX2_readSaying_54 : decode cX2_readSaying 54 = .ok (.iastore, 1) := dk_79 (dk_at dksX2_readSaying_2 6 rfl rfl)
theorem dX2_readSaying_55 : decode cX2_readSaying 55 = .ok (.aload_n 0, 1) := dk_42 (dk_at dksX2_readSaying_2 7 rfl rfl)
theorem dX2_readSaying_56 : decode cX2_readSaying 56 = .ok (.getfield 37, 3) := dk_180 0 37 (dk_at dksX2_readSaying_2 8 rfl rfl)
theorem dX2_readSaying_59 : decode cX2_readSaying 59 = .ok (.iload_n 3, 1) := dk_29 (dk_at dksX2_readSaying_2 11 rfl rfl)
theorem dX2_readSaying_60 : decode cX2_readSaying 60 = .ok (.iconst (-1), 1) := dk_2 (dk_at dksX2_readSaying_2 12 rfl rfl)
theorem dX2_readSaying_61 : decode cX2_readSaying 61 = .ok (.iastore, 1) := dk_79 (dk_at dksX2_readSaying_2 13 rfl rfl)
theorem dX2_readSaying_62 : decode cX2_readSaying 62 = .ok (.aload_n 0, 1) := dk_42 (dk_at dksX2_readSaying_2 14 rfl rfl)
theorem dX2_readSaying_63 : decode cX2_readSaying 63 = .ok (.getfield 40, 3) := dk_180 0 40 (dk_at dksX2_readSaying_2 15 rfl rfl)
theorem dX2_readSaying_66 : decode cX2_readSaying 66 = .ok (.iload_n 3, 1) := dk_29 (dk_at dksX2_readSaying_2 18 rfl rfl)
theorem dX2_readSaying_67 : decode cX2_readSaying 67 = .ok (.iconst (-1), 1) := dk_2 (dk_at dksX2_readSaying_2 19 rfl rfl)
theorem dX2_readSaying_68 : decode cX2_readSaying 68 = .ok (.iastore, 1) := dk_79 (dk_at dksX2_readSaying_2 20 rfl rfl)
theorem dX2_readSaying_69 : decode cX2_readSaying 69 = .ok (.aload_n 0, 1) := dk_42 (dk_at dksX2_readSaying_2 21 rfl rfl)
theorem dX2_readSaying_70 : decode cX2_readSaying 70 = .ok (.getfield 43, 3) := dk_180 0 43 (dk_at dksX2_readSaying_3 0 rfl rfl)
theorem dX2_readSaying_73 : decode cX2_readSaying 73 = .ok (.iload_n 3, 1) := dk_29 (dk_at dksX2_readSaying_3 3 rfl rfl)
theorem dX2_readSaying_74 : decode cX2_readSaying 74 = .ok (.iconst 0, 1) := dk_3 (dk_at dksX2_readSaying_3 4 rfl rfl)
theorem dX2_readSaying_75 : decode cX2_readSaying 75 = .ok (.iastore, 1) := dk_79 (dk_at dksX2_readSaying_3 5 rfl rfl)
theorem dX2_readSaying_76 : decode cX2_readSaying 76 = .ok (.iconst 0, 1) := dk_3 (dk_at dksX2_readSaying_3 6 rfl rfl)
theorem dX2_readSaying_77 : decode cX2_readSaying 77 = .ok (.istore 5, 2) := dk_54 5 (dk_at dksX2_readSaying_3 7 rfl rfl)
theorem dX2_readSaying_79 : decode cX2_readSaying 79 = .ok (.iload 5, 2) := dk_21 5 (dk_at dksX2_readSaying_3 9 rfl rfl)
theorem dX2_readSaying_81 : decode cX2_readSaying 81 = .ok (.iconst 5, 1) := dk_8 (dk_at dksX2_readSaying_3 11 rfl rfl)
theorem dX2_readSaying_82 : decode cX2_readSaying 82 = .ok (.if_icmp .ge 21, 3) := dk_162 0 21 (dk_at dksX2_readSaying_3 12 rfl rfl)
theorem dX2_readSaying_85 : decode cX2_readSaying 85 = .ok (.aload_n 0, 1) := dk_42 (dk_at dksX2_readSaying_3 15 rfl rfl)
theorem dX2_readSaying_86 : decode cX2_readSaying 86 = .ok (.getfield 46, 3) := dk_180 0 46 (dk_at dksX2_readSaying_3 16 rfl rfl)
theorem dX2_readSaying_89 : decode cX2_readSaying 89 = .ok (.iconst 5, 1) := dk_8 (dk_at dksX2_readSaying_3 19 rfl rfl)
theorem dX2_readSaying_90 : decode cX2_readSaying 90 = .ok (.iload_n 3, 1) := dk_29 (dk_at dksX2_readSaying_3 20 rfl rfl)
theorem dX2_readSaying_91 : decode cX2_readSaying 91 = .ok (.imul, 1) := dk_104 (dk_at dksX2_readSaying_3 21 rfl rfl)
theorem dX2_readSaying_92 : decode cX2_readSaying 92 = .ok (.iload 5, 2) := dk_21 5 (dk_at dksX2_readSaying_3 22 rfl rfl)
theorem dX2_readSaying_94 : decode cX2_readSaying 94 = .ok (.iadd, 1) := dk_96 (dk_at dksX2_readSaying_4 0 rfl rfl)
theorem dX2_readSaying_95 : decode cX2_readSaying 95 = .ok (.iconst (-1), 1) := dk_2 (dk_at dksX2_readSaying_4 1 rfl rfl)
theorem dX2_readSaying_96 : decode cX2_readSaying 96 = .ok (.iastore, 1) := dk_79 (dk_at dksX2_readSaying_4 2 rfl rfl)
theorem dX2_readSaying_97 : decode cX2_readSaying 97 = .ok (.iinc 5 1, 3) := dk_132 5 1 (dk_at dksX2_readSaying_4 3 rfl rfl)
theorem dX2_readSaying_100 : decode cX2_readSaying 100 = .ok (.goto (-21), 3) := dk_167 255 235 (dk_at dksX2_readSaying_4 6 rfl rfl)
theorem dX2_readSaying_103 : decode cX2_readSaying 103 = .ok (.iconst 0, 1) := dk_3 (dk_at dksX2_readSaying_4 9 rfl rfl)
theorem dX2_readSaying_104 : decode cX2_readSaying 104 = .ok (.istore 5, 2) := dk_54 5 (dk_at dksX2_readSaying_4 10 rfl rfl)
theorem dX2_readSaying_106 : decode cX2_readSaying 106 = .ok (.iload 5, 2) := dk_21 5 (dk_at dksX2_readSaying_4 12 rfl rfl)
theorem dX2_readSaying_108 : decode cX2_readSaying 108 = .ok (.iconst 3, 1) := dk_6 (dk_at dksX2_readSaying_4 14 rfl rfl)
theorem dX2_readSaying_109 : decode cX2_readSaying 109 = .ok (.if_icmp .ge 33, 3) := dk_162 0 33 (dk_at dksX2_readSaying_4 15 rfl rfl)
theorem dX2_readSaying_112 : decode cX2_readSaying 112 = .ok (.aload_n 0, 1) := dk_42 (dk_at dksX2_readSaying_4 18 rfl rfl)
theorem dX2_readSaying_113 : decode cX2_readSaying 113 = .ok (.getfield 49, 3) := dk_180 0 49 (dk_at dksX2_readSaying_4 19 rfl rfl)
theorem dX2_readSaying_116 : decode cX2_readSaying 116 = .ok (.iconst 3, 1) := dk_6 (dk_at dksX2_readSaying_4 22 rfl rfl)
theorem dX2_readSaying_117 : decode cX2_readSaying 117 = .ok (.iload_n 3, 1) := dk_29 (dk_at dksX2_readSaying_4 23 rfl rfl)
theorem dX2_readSaying_118 : decode cX2_readSaying 118 = .ok (.imul, 1) := dk_104 (dk_at dksX2_readSaying_5 0 rfl rfl)
theorem dX2_readSaying_119 : decode cX2_readSaying 119 = .ok (.iload 5, 2) := dk_21 5 (dk_at dksX2_readSaying_5 1 rfl rfl)
theorem dX2_readSaying_121 : decode cX2_readSaying 121 = .ok (.iadd, 1) := dk_96 (dk_at dksX2_readSaying_5 3 rfl rfl)
theorem dX2_readSaying_122 : decode cX2_readSaying 122 = .ok (.iconst 0, 1) := dk_3 (dk_at dksX2_readSaying_5 4 rfl rfl)
theorem dX2_readSaying_123 : decode cX2_readSaying 123 = .ok (.iastore, 1) := dk_79 (dk_at dksX2_readSaying_5 5 rfl rfl)
theorem dX2_readSaying_124 : decode cX2_readSaying 124 = .ok (.aload_n 0, 1) := dk_42 (dk_at dksX2_readSaying_5 6 rfl rfl)
theorem dX2_readSaying_125 : decode cX2_readSaying 125 = .ok (.getfield 52, 3) := dk_180 0 52 (dk_at dksX2_readSaying_5 7 rfl rfl)
theorem dX2_readSaying_128 : decode cX2_readSaying 128 = .ok (.iconst 3, 1) := dk_6 (dk_at dksX2_readSaying_5 10 rfl rfl)
theorem dX2_readSaying_129 : decode cX2_readSaying 129 = .ok (.iload_n 3, 1) := dk_29 (dk_at dksX2_readSaying_5 11 rfl rfl)
theorem dX2_readSaying_130 : decode cX2_readSaying 130 = .ok (.imul, 1) := dk_104 (dk_at dksX2_readSaying_5 12 rfl rfl)
theorem dX2_readSaying_131 : decode cX2_readSaying 131 = .ok (.iload 5, 2) := dk_21 5 (dk_at dksX2_readSaying_5 13 rfl rfl)
theorem dX2_readSaying_133 : decode cX2_readSaying 133 = .ok (.iadd, 1) := dk_96 (dk_at dksX2_readSaying_5 15 rfl rfl)
theorem dX2_readSaying_134 : decode cX2_readSaying 134 = .ok (.iconst 0, 1) := dk_3 (dk_at dksX2_readSaying_5 16 rfl rfl)
theorem dX2_readSaying_135 : decode cX2_readSaying 135 = .ok (.iastore, 1) := dk_79 (dk_at dksX2_readSaying_5 17 rfl rfl)
theorem dX2_readSaying_136 : decode cX2_readSaying 136 = .ok (.iinc 5 1, 3) := dk_132 5 1 (dk_at dksX2_readSaying_5 18 rfl rfl)
theorem dX2_readSaying_139 : decode cX2_readSaying 139 = .ok (.goto (-33), 3) := dk_167 255 223 (dk_at dksX2_readSaying_5 21 rfl rfl)
theorem dX2_readSaying_142 : decode cX2_readSaying 142 = .ok (.aload_n 0, 1) := dk_42 (dk_at dksX2_readSaying_6 0 rfl rfl)
theorem dX2_readSaying_143 : decode cX2_readSaying 143 = .ok (.getfield 25, 3) := dk_180 0 25 (dk_at dksX2_readSaying_6 1 rfl rfl)
theorem dX2_readSaying_146 : decode cX2_readSaying 146 = .ok (.iload_n 3, 1) := dk_29 (dk_at dksX2_readSaying_6 4 rfl rfl)
theorem dX2_readSaying_147 : decode cX2_readSaying 147 = .ok (.aload_n 0, 1) := dk_42 (dk_at dksX2_readSaying_6 5 rfl rfl)
theorem dX2_readSaying_148 : decode cX2_readSaying 148 = .ok (.iconst (-1), 1) := dk_2 (dk_at dksX2_readSaying_6 6 rfl rfl)
theorem dX2_readSaying_149 : decode cX2_readSaying 149 = .ok (.invokevirtual 264, 3) := dk_182 1 8 (dk_at dksX2_readSaying_6 7 rfl rfl)
theorem dX2_readSaying_152 : decode cX2_readSaying 152 = .ok (.iastore, 1) := dk_79 (dk_at dksX2_readSaying_6 10 rfl rfl)
theorem dX2_readSaying_153 : decode cX2_readSaying 153 = .ok (.iload 4, 2) := dk_21 4 (dk_at dksX2_readSaying_6 11 rfl rfl)
theorem dX2_readSaying_155 : decode cX2_readSaying 155 = .ok (.iconst 2, 1) := dk_5 (dk_at dksX2_readSaying_6 13 rfl rfl)
theorem dX2_readSaying_156 : decode cX2_readSaying 156 = .ok (.if_icmp .ge 22, 3) := dk_162 0 22 (dk_at dksX2_readSaying_6 14 rfl rfl)
theorem dX2_readSaying_159 : decode cX2_readSaying 159 = .ok (.aload_n 0, 1) := dk_42 (dk_at dksX2_readSaying_6 17 rfl rfl)
theorem dX2_readSaying_160 : decode cX2_readSaying 160 = .ok (.getfield 28, 3) := dk_180 0 28 (dk_at dksX2_readSaying_6 18 rfl rfl)
theorem dX2_readSaying_163 : decode cX2_readSaying 163 = .ok (.iload_n 3, 1) := dk_29 (dk_at dksX2_readSaying_6 21 rfl rfl)
theorem dX2_readSaying_164 : decode cX2_readSaying 164 = .ok (.aload_n 0, 1) := dk_42 (dk_at dksX2_readSaying_6 22 rfl rfl)
theorem dX2_readSaying_165 : decode cX2_readSaying 165 = .ok (.aload_n 0, 1) := dk_42 (dk_at dksX2_readSaying_6 23 rfl rfl)
theorem dX2_readSaying_166 : decode cX2_readSaying 166 = .ok (.getfield 25, 3) := dk_180 0 25 (dk_at dksX2_readSaying_7 0 rfl rfl)
theorem dX2_readSaying_169 : decode cX2_readSaying 169 = .ok (.iload_n 3, 1) := dk_29 (dk_at dksX2_readSaying_7 3 rfl rfl)
theorem dX2_readSaying_170 : decode cX2_readSaying 170 = .ok (.iaload, 1) := dk_46 (dk_at dksX2_readSaying_7 4 rfl rfl)
theorem dX2_readSaying_171 : decode cX2_readSaying 171 = .ok (.invokevirtual 264, 3) := dk_182 1 8 (dk_at dksX2_readSaying_7 5 rfl rfl)
theorem dX2_readSaying_174 : decode cX2_readSaying 174 = .ok (.iastore, 1) := dk_79 (dk_at dksX2_readSaying_7 8 rfl rfl)
theorem dX2_readSaying_175 : decode cX2_readSaying 175 = .ok (.goto 23, 3) := dk_167 0 23 (dk_at dksX2_readSaying_7 9 rfl rfl)
theorem dX2_readSaying_178 : decode cX2_readSaying 178 = .ok (.aload_n 0, 1) := dk_42 (dk_at dksX2_readSaying_7 12 rfl rfl)
theorem dX2_readSaying_179 : decode cX2_readSaying 179 = .ok (.getfield 31, 3) := dk_180 0 31 (dk_at dksX2_readSaying_7 13 rfl rfl)
theorem dX2_readSaying_182 : decode cX2_readSaying 182 = .ok (.iload_n 3, 1) := dk_29 (dk_at dksX2_readSaying_7 16 rfl rfl)
theorem dX2_readSaying_183 : decode cX2_readSaying 183 = .ok (.aload_n 0, 1) := dk_42 (dk_at dksX2_readSaying_7 17 rfl rfl)
theorem dX2_readSaying_184 : decode cX2_readSaying 184 = .ok (.iload_n 1, 1) := dk_27 (dk_at dksX2_readSaying_7 18 rfl rfl)
theorem dX2_readSaying_185 : decode cX2_readSaying 185 = .ok (.iload_n 2, 1) := dk_28 (dk_at dksX2_readSaying_7 19 rfl rfl)
theorem dX2_readSaying_186 : decode cX2_readSaying 186 = .ok (.iload 4, 2) := dk_21 4 (dk_at dksX2_readSaying_7 20 rfl rfl)
theorem dX2_readSaying_188 : decode cX2_readSaying 188 = .ok (.aload_n 0, 1) := dk_42 (dk_at dksX2_readSaying_7 22 rfl rfl)
theorem dX2_readSaying_189 : decode cX2_readSaying 189 = .ok (.getfield 25, 3) := dk_180 0 25 (dk_at dksX2_readSaying_8 0 rfl rfl)
theorem dX2_readSaying_192 : decode cX2_readSaying 192 = .ok (.iload_n 3, 1) := dk_29 (dk_at dksX2_readSaying_8 3 rfl rfl)
theorem dX2_readSaying_193 : decode cX2_readSaying 193 = .ok (.iaload, 1) := dk_46 (dk_at dksX2_readSaying_8 4 rfl rfl)
theorem dX2_readSaying_194 : decode cX2_readSaying 194 = .ok (.invokevirtual 268, 3) := dk_182 1 12 (dk_at dksX2_readSaying_8 5 rfl rfl)
theorem dX2_readSaying_197 : decode cX2_readSaying 197 = .ok (.iastore, 1) := dk_79 (dk_at dksX2_readSaying_8 8 rfl rfl)
theorem dX2_readSaying_198 : decode cX2_readSaying 198 = .ok (.iload 4, 2) := dk_21 4 (dk_at dksX2_readSaying_8 9 rfl rfl)
theorem dX2_readSaying_200 : decode cX2_readSaying 200 = .ok (.ifCond .ne 65, 3) := dk_154 0 65 (dk_at dksX2_readSaying_8 11 rfl rfl)
theorem dX2_readSaying_203 : decode cX2_readSaying 203 = .ok (.aload_n 0, 1) := dk_42 (dk_at dksX2_readSaying_8 14 rfl rfl)
theorem dX2_readSaying_204 : decode cX2_readSaying 204 = .ok (.iload_n 3, 1) := dk_29 (dk_at dksX2_readSaying_8 15 rfl rfl)
theorem dX2_readSaying_205 : decode cX2_readSaying 205 = .ok (.iconst 0, 1) := dk_3 (dk_at dksX2_readSaying_8 16 rfl rfl)
theorem dX2_readSaying_206 : decode cX2_readSaying 206 = .ok (.invokevirtual 272, 3) := dk_182 1 16 (dk_at dksX2_readSaying_8 17 rfl rfl)
theorem dX2_readSaying_209 : decode cX2_readSaying 209 = .ok (.aload_n 0, 1) := dk_42 (dk_at dksX2_readSaying_8 20 rfl rfl)
theorem dX2_readSaying_210 : decode cX2_readSaying 210 = .ok (.ldc2_w 276, 3) := dk_20 1 20 (dk_at dksX2_readSaying_8 21 rfl rfl)
theorem dX2_readSaying_213 : decode cX2_readSaying 213 = .ok (.invokevirtual 187, 3) := dk_182 0 187 (dk_at dksX2_readSaying_9 0 rfl rfl)
theorem dX2_readSaying_216 : decode cX2_readSaying 216 = .ok (.ifCond .eq 21, 3) := dk_153 0 21 (dk_at dksX2_readSaying_9 3 rfl rfl)
theorem dX2_readSaying_219 : decode cX2_readSaying 219 = .ok (.aload_n 0, 1) := dk_42 (dk_at dksX2_readSaying_9 6 rfl rfl)
theorem dX2_readSaying_220 : decode cX2_readSaying 220 = .ok (.invokevirtual 191, 3) := dk_182 0 191 (dk_at dksX2_readSaying_9 7 rfl rfl)
theorem dX2_readSaying_223 : decode cX2_readSaying 223 = .ok (.aload_n 0, 1) := dk_42 (dk_at dksX2_readSaying_9 10 rfl rfl)
theorem dX2_readSaying_224 : decode cX2_readSaying 224 = .ok (.getfield 37, 3) := dk_180 0 37 (dk_at dksX2_readSaying_9 11 rfl rfl)
theorem dX2_readSaying_227 : decode cX2_readSaying 227 = .ok (.iload_n 3, 1) := dk_29 (dk_at dksX2_readSaying_9 14 rfl rfl)
theorem dX2_readSaying_228 : decode cX2_readSaying 228 = .ok (.aload_n 0, 1) := dk_42 (dk_at dksX2_readSaying_9 15 rfl rfl)
theorem dX2_readSaying_229 : decode cX2_readSaying 229 = .ok (.iconst 0, 1) := dk_3 (dk_at dksX2_readSaying_9 16 rfl rfl)
theorem dX2_readSaying_230 : decode cX2_readSaying 230 = .ok (.sipush 1999, 3) := dk_17 7 207 (dk_at dksX2_readSaying_9 17 rfl rfl)
theorem dX2_readSaying_233 : decode cX2_readSaying 233 = .ok (.invokevirtual 232, 3) := dk_182 0 232 (dk_at dksX2_readSaying_9 20 rfl rfl)
theorem dX2_readSaying_236 : decode cX2_readSaying 236 = .ok (.iastore, 1) := dk_79 (dk_at dksX2_readSaying_9 23 rfl rfl)
theorem dX2_readSaying_237 : decode cX2_readSaying 237 = .ok (.aload_n 0, 1) := dk_42 (dk_at dksX2_readSaying_10 0 rfl rfl)
theorem dX2_readSaying_238 : decode cX2_readSaying 238 = .ok (.ldc2_w 278, 3) := dk_20 1 22 (dk_at dksX2_readSaying_10 1 rfl rfl)
theorem dX2_readSaying_241 : decode cX2_readSaying 241 = .ok (.invokevirtual 187, 3) := dk_182 0 187 (dk_at dksX2_readSaying_10 4 rfl rfl)
theorem dX2_readSaying_244 : decode cX2_readSaying 244 = .ok (.ifCond .eq 21, 3) := dk_153 0 21 (dk_at dksX2_readSaying_10 7 rfl rfl)
theorem dX2_readSaying_247 : decode cX2_readSaying 247 = .ok (.aload_n 0, 1) := dk_42 (dk_at dksX2_readSaying_10 10 rfl rfl)
theorem dX2_readSaying_248 : decode cX2_readSaying 248 = .ok (.invokevirtual 191, 3) := dk_182 0 191 (dk_at dksX2_readSaying_10 11 rfl rfl)
theorem dX2_readSaying_251 : decode cX2_readSaying 251 = .ok (.aload_n 0, 1) := dk_42 (dk_at dksX2_readSaying_10 14 rfl rfl)
theorem dX2_readSaying_252 : decode cX2_readSaying 252 = .ok (.getfield 40, 3) := dk_180 0 40 (dk_at dksX2_readSaying_10 15 rfl rfl)
theorem dX2_readSaying_255 : decode cX2_readSaying 255 = .ok (.iload_n 3, 1) := dk_29 (dk_at dksX2_readSaying_10 18 rfl rfl)
theorem dX2_readSaying_256 : decode cX2_readSaying 256 = .ok (.aload_n 0, 1) := dk_42 (dk_at dksX2_readSaying_10 19 rfl rfl)
theorem dX2_readSaying_257 : decode cX2_readSaying 257 = .ok (.iconst 0, 1) := dk_3 (dk_at dksX2_readSaying_10 20 rfl rfl)
theorem dX2_readSaying_258 : decode cX2_readSaying 258 = .ok (.iload_n 1, 1) := dk_27 (dk_at dksX2_readSaying_10 21 rfl rfl)
theorem dX2_readSaying_259 : decode cX2_readSaying 259 = .ok (.iconst 1, 1) := dk_4 (dk_at dksX2_readSaying_10 22 rfl rfl)
theorem dX2_readSaying_260 : decode cX2_readSaying 260 = .ok (.isub, 1) := dk_100 (dk_at dksX2_readSaying_10 23 rfl rfl)
theorem dX2_readSaying_261 : decode cX2_readSaying 261 = .ok (.invokevirtual 232, 3) := dk_182 0 232 (dk_at dksX2_readSaying_11 0 rfl rfl)
theorem dX2_readSaying_264 : decode cX2_readSaying 264 = .ok (.iastore, 1) := dk_79 (dk_at dksX2_readSaying_11 3 rfl rfl)
theorem dX2_readSaying_265 : decode cX2_readSaying 265 = .ok (.iload 4, 2) := dk_21 4 (dk_at dksX2_readSaying_11 4 rfl rfl)
theorem dX2_readSaying_267 : decode cX2_readSaying 267 = .ok (.iconst 2, 1) := dk_5 (dk_at dksX2_readSaying_11 6 rfl rfl)
theorem dX2_readSaying_268 : decode cX2_readSaying 268 = .ok (.if_icmp .ne 52, 3) := dk_160 0 52 (dk_at dksX2_readSaying_11 7 rfl rfl)
theorem dX2_readSaying_271 : decode cX2_readSaying 271 = .ok (.aload_n 0, 1) := dk_42 (dk_at dksX2_readSaying_11 10 rfl rfl)
theorem dX2_readSaying_272 : decode cX2_readSaying 272 = .ok (.ldc2_w 280, 3) := dk_20 1 24 (dk_at dksX2_readSaying_11 11 rfl rfl)
theorem dX2_readSaying_275 : decode cX2_readSaying 275 = .ok (.invokevirtual 187, 3) := dk_182 0 187 (dk_at dksX2_readSaying_11 14 rfl rfl)
theorem dX2_readSaying_278 : decode cX2_readSaying 278 = .ok (.ifCond .eq 42, 3) := dk_153 0 42 (dk_at dksX2_readSaying_11 17 rfl rfl)
theorem dX2_readSaying_281 : decode cX2_readSaying 281 = .ok (.aload_n 0, 1) := dk_42 (dk_at dksX2_readSaying_11 20 rfl rfl)
theorem dX2_readSaying_282 : decode cX2_readSaying 282 = .ok (.invokevirtual 191, 3) := dk_182 0 191 (dk_at dksX2_readSaying_11 21 rfl rfl)
theorem dX2_readSaying_285 : decode cX2_readSaying 285 = .ok (.aload_n 0, 1) := dk_42 (dk_at dksX2_readSaying_12 0 rfl rfl)
theorem dX2_readSaying_286 : decode cX2_readSaying 286 = .ok (.getfield 22, 3) := dk_180 0 22 (dk_at dksX2_readSaying_12 1 rfl rfl)
theorem dX2_readSaying_289 : decode cX2_readSaying 289 = .ok (.iload_n 3, 1) := dk_29 (dk_at dksX2_readSaying_12 4 rfl rfl)
theorem dX2_readSaying_290 : decode cX2_readSaying 290 = .ok (.iconst 3, 1) := dk_6 (dk_at dksX2_readSaying_12 5 rfl rfl)
theorem dX2_readSaying_291 : decode cX2_readSaying 291 = .ok (.iastore, 1) := dk_79 (dk_at dksX2_readSaying_12 6 rfl rfl)
theorem dX2_readSaying_292 : decode cX2_readSaying 292 = .ok (.aload_n 0, 1) := dk_42 (dk_at dksX2_readSaying_12 7 rfl rfl)
theorem dX2_readSaying_293 : decode cX2_readSaying 293 = .ok (.getfield 28, 3) := dk_180 0 28 (dk_at dksX2_readSaying_12 8 rfl rfl)
theorem dX2_readSaying_296 : decode cX2_readSaying 296 = .ok (.iload_n 3, 1) := dk_29 (dk_at dksX2_readSaying_12 11 rfl rfl)
theorem dX2_readSaying_297 : decode cX2_readSaying 297 = .ok (.aload_n 0, 1) := dk_42 (dk_at dksX2_readSaying_12 12 rfl rfl)
theorem dX2_readSaying_298 : decode cX2_readSaying 298 = .ok (.getfield 25, 3) := dk_180 0 25 (dk_at dksX2_readSaying_12 13 rfl rfl)
theorem dX2_readSaying_301 : decode cX2_readSaying 301 = .ok (.bipush 12, 2) := dk_16 12 (dk_at dksX2_readSaying_12 16 rfl rfl)
theorem dX2_readSaying_303 : decode cX2_readSaying 303 = .ok (.iload_n 1, 1) := dk_27 (dk_at dksX2_readSaying_12 18 rfl rfl)
theorem dX2_readSaying_304 : decode cX2_readSaying 304 = .ok (.imul, 1) := dk_104 (dk_at dksX2_readSaying_12 19 rfl rfl)
theorem dX2_readSaying_305 : decode cX2_readSaying 305 = .ok (.aload_n 0, 1) := dk_42 (dk_at dksX2_readSaying_12 20 rfl rfl)
theorem dX2_readSaying_306 : decode cX2_readSaying 306 = .ok (.getfield 31, 3) := dk_180 0 31 (dk_at dksX2_readSaying_12 21 rfl rfl)
theorem dX2_readSaying_309 : decode cX2_readSaying 309 = .ok (.iload_n 3, 1) := dk_29 (dk_at dksX2_readSaying_13 0 rfl rfl)
theorem dX2_readSaying_310 : decode cX2_readSaying 310 = .ok (.iaload, 1) := dk_46 (dk_at dksX2_readSaying_13 1 rfl rfl)
theorem dX2_readSaying_311 : decode cX2_readSaying 311 = .ok (.iadd, 1) := dk_96 (dk_at dksX2_readSaying_13 2 rfl rfl)
theorem dX2_readSaying_312 : decode cX2_readSaying 312 = .ok (.iaload, 1) := dk_46 (dk_at dksX2_readSaying_13 3 rfl rfl)
theorem dX2_readSaying_313 : decode cX2_readSaying 313 = .ok (.iastore, 1) := dk_79 (dk_at dksX2_readSaying_13 4 rfl rfl)
theorem dX2_readSaying_314 : decode cX2_readSaying 314 = .ok (.aload_n 0, 1) := dk_42 (dk_at dksX2_readSaying_13 5 rfl rfl)
theorem dX2_readSaying_315 : decode cX2_readSaying 315 = .ok (.iload_n 3, 1) := dk_29 (dk_at dksX2_readSaying_13 6 rfl rfl)
theorem dX2_readSaying_316 : decode cX2_readSaying 316 = .ok (.iconst 1, 1) := dk_4 (dk_at dksX2_readSaying_13 7 rfl rfl)
theorem dX2_readSaying_317 : decode cX2_readSaying 317 = .ok (.invokevirtual 272, 3) := dk_182 1 16 (dk_at dksX2_readSaying_13 8 rfl rfl)
theorem dX2_readSaying_320 : decode cX2_readSaying 320 = .ok (.aload_n 0, 1) := dk_42 (dk_at dksX2_readSaying_13 11 rfl rfl)
theorem dX2_readSaying_321 : decode cX2_readSaying 321 = .ok (.iload_n 3, 1) := dk_29 (dk_at dksX2_readSaying_13 12 rfl rfl)
theorem dX2_readSaying_322 : decode cX2_readSaying 322 = .ok (.invokevirtual 282, 3) := dk_182 1 26 (dk_at dksX2_readSaying_13 13 rfl rfl)
theorem dX2_readSaying_325 : decode cX2_readSaying 325 = .ok (.aload_n 0, 1) := dk_42 (dk_at dksX2_readSaying_13 16 rfl rfl)
theorem dX2_readSaying_326 : decode cX2_readSaying 326 = .ok (.invokevirtual 286, 3) := dk_182 1 30 (dk_at dksX2_readSaying_13 17 rfl rfl)
theorem dX2_readSaying_329 : decode cX2_readSaying 329 = .ok (.return_, 1) := dk_177 (dk_at dksX2_readSaying_13 20 rfl rfl)
abbrev cX2_whatHere : ByteArray := prog_23_method_15_code
def yX2_whatHere : MethodName := ⟨RX2, "whatHere", "()I"⟩
def dkwX2_whatHere_4 : List UInt8 := [16, 6, 172, 42, 180, 0, 166, 20, 0, 221, 148, 154, 0, 6, 16, 7, 172, 2, 172]
abbrev dktX2_whatHere_4 : List UInt8 := dkwX2_whatHere_4 ++ []
def dkwX2_whatHere_3 : List UInt8 := [180, 0, 166, 20, 0, 217, 148, 154, 0, 5, 8, 172, 42, 180, 0, 166, 20, 0, 219, 148, 154, 0, 6]
abbrev dktX2_whatHere_3 : List UInt8 := dkwX2_whatHere_3 ++ dktX2_whatHere_4
def dkwX2_whatHere_2 : List UInt8 := [20, 0, 213, 148, 154, 0, 5, 5, 172, 42, 180, 0, 166, 20, 0, 215, 148, 154, 0, 5, 7, 172, 42]
abbrev dktX2_whatHere_2 : List UInt8 := dkwX2_whatHere_2 ++ dktX2_whatHere_3
def dkwX2_whatHere_1 : List UInt8 := [148, 154, 0, 5, 3, 172, 42, 180, 0, 166, 20, 0, 211, 148, 154, 0, 5, 4, 172, 42, 180, 0, 166]
abbrev dktX2_whatHere_1 : List UInt8 := dkwX2_whatHere_1 ++ dktX2_whatHere_2
def dkwX2_whatHere_0 : List UInt8 := [42, 180, 0, 183, 154, 0, 11, 42, 180, 0, 173, 4, 159, 0, 5, 2, 172, 42, 180, 0, 166, 20, 0, 209]
abbrev dktX2_whatHere_0 : List UInt8 := dkwX2_whatHere_0 ++ dktX2_whatHere_1
theorem dksX2_whatHere_0 : cX2_whatHere.data.toList.drop 0 = dktX2_whatHere_0 := by decide +kernel
theorem dksX2_whatHere_1 : cX2_whatHere.data.toList.drop 24 = dktX2_whatHere_1 := dk_seg dksX2_whatHere_0 24 rfl rfl
theorem dksX2_whatHere_2 : cX2_whatHere.data.toList.drop 47 = dktX2_whatHere_2 := dk_seg dksX2_whatHere_1 23 rfl rfl
theorem dksX2_whatHere_3 : cX2_whatHere.data.toList.drop 70 = dktX2_whatHere_3 := dk_seg dksX2_whatHere_2 23 rfl rfl
theorem dksX2_whatHere_4 : cX2_whatHere.data.toList.drop 93 = dktX2_whatHere_4 := dk_seg dksX2_whatHere_3 23 rfl rfl
theorem dX2_whatHere_0 : decode cX2_whatHere 0 = .ok (.aload_n 0, 1) := dk_42 (dk_at dksX2_whatHere_0 0 rfl rfl)
theorem dX2_whatHere_1 : decode cX2_whatHere 1 = .ok (.getfield 183, 3) := dk_180 0 183 (dk_at dksX2_whatHere_0 1 rfl rfl)
theorem dX2_whatHere_4 : decode cX2_whatHere 4 = .ok (.ifCond .ne 11, 3) := dk_154 0 11 (dk_at dksX2_whatHere_0 4 rfl rfl)
theorem dX2_whatHere_7 : decode cX2_whatHere 7 = .ok (.aload_n 0, 1) := dk_42 (dk_at dksX2_whatHere_0 7 rfl rfl)
theorem dX2_whatHere_8 : decode cX2_whatHere 8 = .ok (.getfield 173, 3) := dk_180 0 173 (dk_at dksX2_whatHere_0 8 rfl rfl)
theorem dX2_whatHere_11 : decode cX2_whatHere 11 = .ok (.iconst 1, 1) := dk_4 (dk_at dksX2_whatHere_0 11 rfl rfl)
theorem dX2_whatHere_12 : decode cX2_whatHere 12 = .ok (.if_icmp .eq 5, 3) := dk_159 0 5 (dk_at dksX2_whatHere_0 12 rfl rfl)
theorem dX2_whatHere_15 : decode cX2_whatHere 15 = .ok (.iconst (-1), 1) := dk_2 (dk_at dksX2_whatHere_0 15 rfl rfl)
theorem dX2_whatHere_16 : decode cX2_whatHere 16 = .ok (.ireturn, 1) := dk_172 (dk_at dksX2_whatHere_0 16 rfl rfl)
theorem dX2_whatHere_17 : decode cX2_whatHere 17 = .ok (.aload_n 0, 1) := dk_42 (dk_at dksX2_whatHere_0 17 rfl rfl)
theorem dX2_whatHere_18 : decode cX2_whatHere 18 = .ok (.getfield 166, 3) := dk_180 0 166 (dk_at dksX2_whatHere_0 18 rfl rfl)
theorem dX2_whatHere_21 : decode cX2_whatHere 21 = .ok (.ldc2_w 209, 3) := dk_20 0 209 (dk_at dksX2_whatHere_0 21 rfl rfl)
theorem dX2_whatHere_24 : decode cX2_whatHere 24 = .ok (.lcmp, 1) := dk_148 (dk_at dksX2_whatHere_1 0 rfl rfl)
theorem dX2_whatHere_25 : decode cX2_whatHere 25 = .ok (.ifCond .ne 5, 3) := dk_154 0 5 (dk_at dksX2_whatHere_1 1 rfl rfl)
theorem dX2_whatHere_28 : decode cX2_whatHere 28 = .ok (.iconst 0, 1) := dk_3 (dk_at dksX2_whatHere_1 4 rfl rfl)
theorem dX2_whatHere_29 : decode cX2_whatHere 29 = .ok (.ireturn, 1) := dk_172 (dk_at dksX2_whatHere_1 5 rfl rfl)
theorem dX2_whatHere_30 : decode cX2_whatHere 30 = .ok (.aload_n 0, 1) := dk_42 (dk_at dksX2_whatHere_1 6 rfl rfl)
theorem dX2_whatHere_31 : decode cX2_whatHere 31 = .ok (.getfield 166, 3) := dk_180 0 166 (dk_at dksX2_whatHere_1 7 rfl rfl)
theorem dX2_whatHere_34 : decode cX2_whatHere 34 = .ok (.ldc2_w 211, 3) := dk_20 0 211 (dk_at dksX2_whatHere_1 10 rfl rfl)
theorem dX2_whatHere_37 : decode cX2_whatHere 37 = .ok (.lcmp, 1) := dk_148 (dk_at dksX2_whatHere_1 13 rfl rfl)
theorem dX2_whatHere_38 : decode cX2_whatHere 38 = .ok (.ifCond .ne 5, 3) := dk_154 0 5 (dk_at dksX2_whatHere_1 14 rfl rfl)
theorem dX2_whatHere_41 : decode cX2_whatHere 41 = .ok (.iconst 1, 1) := dk_4 (dk_at dksX2_whatHere_1 17 rfl rfl)
theorem dX2_whatHere_42 : decode cX2_whatHere 42 = .ok (.ireturn, 1) := dk_172 (dk_at dksX2_whatHere_1 18 rfl rfl)
theorem dX2_whatHere_43 : decode cX2_whatHere 43 = .ok (.aload_n 0, 1) := dk_42 (dk_at dksX2_whatHere_1 19 rfl rfl)
theorem dX2_whatHere_44 : decode cX2_whatHere 44 = .ok (.getfield 166, 3) := dk_180 0 166 (dk_at dksX2_whatHere_1 20 rfl rfl)
theorem dX2_whatHere_47 : decode cX2_whatHere 47 = .ok (.ldc2_w 213, 3) := dk_20 0 213 (dk_at dksX2_whatHere_2 0 rfl rfl)
theorem dX2_whatHere_50 : decode cX2_whatHere 50 = .ok (.lcmp, 1) := dk_148 (dk_at dksX2_whatHere_2 3 rfl rfl)
theorem dX2_whatHere_51 : decode cX2_whatHere 51 = .ok (.ifCond .ne 5, 3) := dk_154 0 5 (dk_at dksX2_whatHere_2 4 rfl rfl)
theorem dX2_whatHere_54 : decode cX2_whatHere 54 = .ok (.iconst 2, 1) := dk_5 (dk_at dksX2_whatHere_2 7 rfl rfl)
theorem dX2_whatHere_55 : decode cX2_whatHere 55 = .ok (.ireturn, 1) := dk_172 (dk_at dksX2_whatHere_2 8 rfl rfl)
theorem dX2_whatHere_56 : decode cX2_whatHere 56 = .ok (.aload_n 0, 1) := dk_42 (dk_at dksX2_whatHere_2 9 rfl rfl)
theorem dX2_whatHere_57 : decode cX2_whatHere 57 = .ok (.getfield 166, 3) := dk_180 0 166 (dk_at dksX2_whatHere_2 10 rfl rfl)
theorem dX2_whatHere_60 : decode cX2_whatHere 60 = .ok (.ldc2_w 215, 3) := dk_20 0 215 (dk_at dksX2_whatHere_2 13 rfl rfl)
theorem dX2_whatHere_63 : decode cX2_whatHere 63 = .ok (.lcmp, 1) := dk_148 (dk_at dksX2_whatHere_2 16 rfl rfl)
theorem dX2_whatHere_64 : decode cX2_whatHere 64 = .ok (.ifCond .ne 5, 3) := dk_154 0 5 (dk_at dksX2_whatHere_2 17 rfl rfl)
theorem dX2_whatHere_67 : decode cX2_whatHere 67 = .ok (.iconst 4, 1) := dk_7 (dk_at dksX2_whatHere_2 20 rfl rfl)
theorem dX2_whatHere_68 : decode cX2_whatHere 68 = .ok (.ireturn, 1) := dk_172 (dk_at dksX2_whatHere_2 21 rfl rfl)
theorem dX2_whatHere_69 : decode cX2_whatHere 69 = .ok (.aload_n 0, 1) := dk_42 (dk_at dksX2_whatHere_2 22 rfl rfl)
theorem dX2_whatHere_70 : decode cX2_whatHere 70 = .ok (.getfield 166, 3) := dk_180 0 166 (dk_at dksX2_whatHere_3 0 rfl rfl)
theorem dX2_whatHere_73 : decode cX2_whatHere 73 = .ok (.ldc2_w 217, 3) := dk_20 0 217 (dk_at dksX2_whatHere_3 3 rfl rfl)
theorem dX2_whatHere_76 : decode cX2_whatHere 76 = .ok (.lcmp, 1) := dk_148 (dk_at dksX2_whatHere_3 6 rfl rfl)
theorem dX2_whatHere_77 : decode cX2_whatHere 77 = .ok (.ifCond .ne 5, 3) := dk_154 0 5 (dk_at dksX2_whatHere_3 7 rfl rfl)
theorem dX2_whatHere_80 : decode cX2_whatHere 80 = .ok (.iconst 5, 1) := dk_8 (dk_at dksX2_whatHere_3 10 rfl rfl)
theorem dX2_whatHere_81 : decode cX2_whatHere 81 = .ok (.ireturn, 1) := dk_172 (dk_at dksX2_whatHere_3 11 rfl rfl)
theorem dX2_whatHere_82 : decode cX2_whatHere 82 = .ok (.aload_n 0, 1) := dk_42 (dk_at dksX2_whatHere_3 12 rfl rfl)
theorem dX2_whatHere_83 : decode cX2_whatHere 83 = .ok (.getfield 166, 3) := dk_180 0 166 (dk_at dksX2_whatHere_3 13 rfl rfl)
theorem dX2_whatHere_86 : decode cX2_whatHere 86 = .ok (.ldc2_w 219, 3) := dk_20 0 219 (dk_at dksX2_whatHere_3 16 rfl rfl)
theorem dX2_whatHere_89 : decode cX2_whatHere 89 = .ok (.lcmp, 1) := dk_148 (dk_at dksX2_whatHere_3 19 rfl rfl)
theorem dX2_whatHere_90 : decode cX2_whatHere 90 = .ok (.ifCond .ne 6, 3) := dk_154 0 6 (dk_at dksX2_whatHere_3 20 rfl rfl)
theorem dX2_whatHere_93 : decode cX2_whatHere 93 = .ok (.bipush 6, 2) := dk_16 6 (dk_at dksX2_whatHere_4 0 rfl rfl)
theorem dX2_whatHere_95 : decode cX2_whatHere 95 = .ok (.ireturn, 1) := dk_172 (dk_at dksX2_whatHere_4 2 rfl rfl)
theorem dX2_whatHere_96 : decode cX2_whatHere 96 = .ok (.aload_n 0, 1) := dk_42 (dk_at dksX2_whatHere_4 3 rfl rfl)
theorem dX2_whatHere_97 : decode cX2_whatHere 97 = .ok (.getfield 166, 3) := dk_180 0 166 (dk_at dksX2_whatHere_4 4 rfl rfl)
theorem dX2_whatHere_100 : decode cX2_whatHere 100 = .ok (.ldc2_w 221, 3) := dk_20 0 221 (dk_at dksX2_whatHere_4 7 rfl rfl)
theorem dX2_whatHere_103 : decode cX2_whatHere 103 = .ok (.lcmp, 1) := dk_148 (dk_at dksX2_whatHere_4 10 rfl rfl)
theorem dX2_whatHere_104 : decode cX2_whatHere 104 = .ok (.ifCond .ne 6, 3) := dk_154 0 6 (dk_at dksX2_whatHere_4 11 rfl rfl)
theorem dX2_whatHere_107 : decode cX2_whatHere 107 = .ok (.bipush 7, 2) := dk_16 7 (dk_at dksX2_whatHere_4 14 rfl rfl)
theorem dX2_whatHere_109 : decode cX2_whatHere 109 = .ok (.ireturn, 1) := dk_172 (dk_at dksX2_whatHere_4 16 rfl rfl)
theorem dX2_whatHere_110 : decode cX2_whatHere 110 = .ok (.iconst (-1), 1) := dk_2 (dk_at dksX2_whatHere_4 17 rfl rfl)
theorem dX2_whatHere_111 : decode cX2_whatHere 111 = .ok (.ireturn, 1) := dk_172 (dk_at dksX2_whatHere_4 18 rfl rfl)
abbrev cX2_handHere : ByteArray := prog_23_method_13_code
def yX2_handHere : MethodName := ⟨RX2, "handHere", "(I)I"⟩
def dkwX2_handHere_2 : List UInt8 := [2, 61, 28, 155, 0, 8, 28, 27, 160, 0, 9, 42, 182, 0, 194, 3, 172, 42, 182, 0, 191, 28, 172]
abbrev dktX2_handHere_2 : List UInt8 := dkwX2_handHere_2 ++ []
def dkwX2_handHere_1 : List UInt8 := [155, 0, 24, 42, 180, 0, 166, 20, 0, 197, 148, 157, 0, 13, 42, 180, 0, 166, 136, 4, 100, 167, 0, 4]
abbrev dktX2_handHere_1 : List UInt8 := dkwX2_handHere_1 ++ dktX2_handHere_2
def dkwX2_handHere_0 : List UInt8 := [42, 180, 0, 183, 153, 0, 5, 3, 172, 42, 180, 0, 173, 4, 160, 0, 33, 42, 180, 0, 166, 10, 148]
abbrev dktX2_handHere_0 : List UInt8 := dkwX2_handHere_0 ++ dktX2_handHere_1
theorem dksX2_handHere_0 : cX2_handHere.data.toList.drop 0 = dktX2_handHere_0 := by decide +kernel
theorem dksX2_handHere_1 : cX2_handHere.data.toList.drop 23 = dktX2_handHere_1 := dk_seg dksX2_handHere_0 23 rfl rfl
theorem dksX2_handHere_2 : cX2_handHere.data.toList.drop 47 = dktX2_handHere_2 := dk_seg dksX2_handHere_1 24 rfl rfl
theorem dX2_handHere_0 : decode cX2_handHere 0 = .ok (.aload_n 0, 1) := dk_42 (dk_at dksX2_handHere_0 0 rfl rfl)
theorem dX2_handHere_1 : decode cX2_handHere 1 = .ok (.getfield 183, 3) := dk_180 0 183 (dk_at dksX2_handHere_0 1 rfl rfl)
theorem dX2_handHere_4 : decode cX2_handHere 4 = .ok (.ifCond .eq 5, 3) := dk_153 0 5 (dk_at dksX2_handHere_0 4 rfl rfl)
theorem dX2_handHere_7 : decode cX2_handHere 7 = .ok (.iconst 0, 1) := dk_3 (dk_at dksX2_handHere_0 7 rfl rfl)
theorem dX2_handHere_8 : decode cX2_handHere 8 = .ok (.ireturn, 1) := dk_172 (dk_at dksX2_handHere_0 8 rfl rfl)
theorem dX2_handHere_9 : decode cX2_handHere 9 = .ok (.aload_n 0, 1) := dk_42 (dk_at dksX2_handHere_0 9 rfl rfl)
theorem dX2_handHere_10 : decode cX2_handHere 10 = .ok (.getfield 173, 3) := dk_180 0 173 (dk_at dksX2_handHere_0 10 rfl rfl)
theorem dX2_handHere_13 : decode cX2_handHere 13 = .ok (.iconst 1, 1) := dk_4 (dk_at dksX2_handHere_0 13 rfl rfl)
theorem dX2_handHere_14 : decode cX2_handHere 14 = .ok (.if_icmp .ne 33, 3) := dk_160 0 33 (dk_at dksX2_handHere_0 14 rfl rfl)
theorem dX2_handHere_17 : decode cX2_handHere 17 = .ok (.aload_n 0, 1) := dk_42 (dk_at dksX2_handHere_0 17 rfl rfl)
theorem dX2_handHere_18 : decode cX2_handHere 18 = .ok (.getfield 166, 3) := dk_180 0 166 (dk_at dksX2_handHere_0 18 rfl rfl)
theorem dX2_handHere_21 : decode cX2_handHere 21 = .ok (.lconst 1, 1) := dk_10 (dk_at dksX2_handHere_0 21 rfl rfl)
theorem dX2_handHere_22 : decode cX2_handHere 22 = .ok (.lcmp, 1) := dk_148 (dk_at dksX2_handHere_0 22 rfl rfl)
theorem dX2_handHere_23 : decode cX2_handHere 23 = .ok (.ifCond .lt 24, 3) := dk_155 0 24 (dk_at dksX2_handHere_1 0 rfl rfl)
theorem dX2_handHere_26 : decode cX2_handHere 26 = .ok (.aload_n 0, 1) := dk_42 (dk_at dksX2_handHere_1 3 rfl rfl)
theorem dX2_handHere_27 : decode cX2_handHere 27 = .ok (.getfield 166, 3) := dk_180 0 166 (dk_at dksX2_handHere_1 4 rfl rfl)
theorem dX2_handHere_30 : decode cX2_handHere 30 = .ok (.ldc2_w 197, 3) := dk_20 0 197 (dk_at dksX2_handHere_1 7 rfl rfl)
theorem dX2_handHere_33 : decode cX2_handHere 33 = .ok (.lcmp, 1) := dk_148 (dk_at dksX2_handHere_1 10 rfl rfl)
theorem dX2_handHere_34 : decode cX2_handHere 34 = .ok (.ifCond .gt 13, 3) := dk_157 0 13 (dk_at dksX2_handHere_1 11 rfl rfl)
theorem dX2_handHere_37 : decode cX2_handHere 37 = .ok (.aload_n 0, 1) := dk_42 (dk_at dksX2_handHere_1 14 rfl rfl)
theorem dX2_handHere_38 : decode cX2_handHere 38 = .ok (.getfield 166, 3) := dk_180 0 166 (dk_at dksX2_handHere_1 15 rfl rfl)
theorem dX2_handHere_41 : decode cX2_handHere 41 = .ok (.l2i, 1) := dk_136 (dk_at dksX2_handHere_1 18 rfl rfl)
theorem dX2_handHere_42 : decode cX2_handHere 42 = .ok (.iconst 1, 1) := dk_4 (dk_at dksX2_handHere_1 19 rfl rfl)
theorem dX2_handHere_43 : decode cX2_handHere 43 = .ok (.isub, 1) := dk_100 (dk_at dksX2_handHere_1 20 rfl rfl)
theorem dX2_handHere_44 : decode cX2_handHere 44 = .ok (.goto 4, 3) := dk_167 0 4 (dk_at dksX2_handHere_1 21 rfl rfl)
theorem dX2_handHere_47 : decode cX2_handHere 47 = .ok (.iconst (-1), 1) := dk_2 (dk_at dksX2_handHere_2 0 rfl rfl)
theorem dX2_handHere_48 : decode cX2_handHere 48 = .ok (.istore_n 2, 1) := dk_61 (dk_at dksX2_handHere_2 1 rfl rfl)
theorem dX2_handHere_49 : decode cX2_handHere 49 = .ok (.iload_n 2, 1) := dk_28 (dk_at dksX2_handHere_2 2 rfl rfl)
theorem dX2_handHere_50 : decode cX2_handHere 50 = .ok (.ifCond .lt 8, 3) := dk_155 0 8 (dk_at dksX2_handHere_2 3 rfl rfl)
theorem dX2_handHere_53 : decode cX2_handHere 53 = .ok (.iload_n 2, 1) := dk_28 (dk_at dksX2_handHere_2 6 rfl rfl)
theorem dX2_handHere_54 : decode cX2_handHere 54 = .ok (.iload_n 1, 1) := dk_27 (dk_at dksX2_handHere_2 7 rfl rfl)
theorem dX2_handHere_55 : decode cX2_handHere 55 = .ok (.if_icmp .ne 9, 3) := dk_160 0 9 (dk_at dksX2_handHere_2 8 rfl rfl)
theorem dX2_handHere_58 : decode cX2_handHere 58 = .ok (.aload_n 0, 1) := dk_42 (dk_at dksX2_handHere_2 11 rfl rfl)
theorem dX2_handHere_59 : decode cX2_handHere 59 = .ok (.invokevirtual 194, 3) := dk_182 0 194 (dk_at dksX2_handHere_2 12 rfl rfl)
theorem dX2_handHere_62 : decode cX2_handHere 62 = .ok (.iconst 0, 1) := dk_3 (dk_at dksX2_handHere_2 15 rfl rfl)
theorem dX2_handHere_63 : decode cX2_handHere 63 = .ok (.ireturn, 1) := dk_172 (dk_at dksX2_handHere_2 16 rfl rfl)
theorem dX2_handHere_64 : decode cX2_handHere 64 = .ok (.aload_n 0, 1) := dk_42 (dk_at dksX2_handHere_2 17 rfl rfl)
theorem dX2_handHere_65 : decode cX2_handHere 65 = .ok (.invokevirtual 191, 3) := dk_182 0 191 (dk_at dksX2_handHere_2 18 rfl rfl)
theorem dX2_handHere_68 : decode cX2_handHere 68 = .ok (.iload_n 2, 1) := dk_28 (dk_at dksX2_handHere_2 21 rfl rfl)
theorem dX2_handHere_69 : decode cX2_handHere 69 = .ok (.ireturn, 1) := dk_172 (dk_at dksX2_handHere_2 22 rfl rfl)
abbrev cX2_saidHere : ByteArray := prog_23_method_21_code
def yX2_saidHere : MethodName := ⟨RX2, "saidHere", "(IIII)I"⟩
def dkwX2_saidHere_9 : List UInt8 := [154, 0, 10, 42, 182, 0, 194, 167, 0, 7, 42, 182, 0, 191, 21, 5, 172]
abbrev dktX2_saidHere_9 : List UInt8 := dkwX2_saidHere_9 ++ []
def dkwX2_saidHere_8 : List UInt8 := [153, 0, 19, 42, 180, 0, 25, 21, 6, 46, 21, 4, 160, 0, 7, 4, 167, 0, 4, 3, 54, 7, 21, 7]
abbrev dktX2_saidHere_8 : List UInt8 := dkwX2_saidHere_8 ++ dktX2_saidHere_9
def dkwX2_saidHere_7 : List UInt8 := [21, 7, 153, 0, 42, 29, 16, 7, 160, 0, 36, 42, 42, 180, 0, 22, 21, 6, 46, 182, 1, 1]
abbrev dktX2_saidHere_7 : List UInt8 := dkwX2_saidHere_7 ++ dktX2_saidHere_8
def dkwX2_saidHere_6 : List UInt8 := [46, 5, 160, 0, 19, 42, 180, 0, 25, 21, 6, 46, 21, 4, 160, 0, 7, 4, 167, 0, 4, 3, 54, 7]
abbrev dktX2_saidHere_6 : List UInt8 := dkwX2_saidHere_6 ++ dktX2_saidHere_7
def dkwX2_saidHere_5 : List UInt8 := [8, 160, 0, 47, 42, 42, 180, 0, 22, 21, 6, 46, 182, 1, 1, 154, 0, 14, 42, 180, 0, 22, 21, 6]
abbrev dktX2_saidHere_5 : List UInt8 := dkwX2_saidHere_5 ++ dktX2_saidHere_6
def dkwX2_saidHere_4 : List UInt8 := [180, 0, 28, 21, 6, 46, 21, 4, 160, 0, 7, 4, 167, 0, 4, 3, 54, 7, 21, 7, 153, 0, 52, 29]
abbrev dktX2_saidHere_4 : List UInt8 := dkwX2_saidHere_4 ++ dktX2_saidHere_5
def dkwX2_saidHere_3 : List UInt8 := [159, 0, 9, 29, 16, 6, 160, 0, 36, 42, 42, 180, 0, 22, 21, 6, 46, 182, 1, 1, 153, 0, 19, 42]
abbrev dktX2_saidHere_3 : List UInt8 := dkwX2_saidHere_3 ++ dktX2_saidHere_4
def dkwX2_saidHere_2 : List UInt8 := [155, 0, 7, 4, 167, 0, 4, 3, 54, 7, 21, 7, 153, 0, 52, 29, 5, 159, 0, 14, 29, 7]
abbrev dktX2_saidHere_2 : List UInt8 := dkwX2_saidHere_2 ++ dktX2_saidHere_3
def dkwX2_saidHere_1 : List UInt8 := [162, 0, 10, 42, 180, 0, 170, 167, 0, 4, 2, 54, 5, 16, 12, 27, 104, 21, 5, 96, 54, 6, 21, 5]
abbrev dktX2_saidHere_1 : List UInt8 := dkwX2_saidHere_1 ++ dktX2_saidHere_2
def dkwX2_saidHere_0 : List UInt8 := [42, 180, 0, 183, 153, 0, 5, 2, 172, 42, 180, 0, 173, 5, 160, 0, 18, 42, 180, 0, 170, 28]
abbrev dktX2_saidHere_0 : List UInt8 := dkwX2_saidHere_0 ++ dktX2_saidHere_1
theorem dksX2_saidHere_0 : cX2_saidHere.data.toList.drop 0 = dktX2_saidHere_0 := by decide +kernel
theorem dksX2_saidHere_1 : cX2_saidHere.data.toList.drop 22 = dktX2_saidHere_1 := dk_seg dksX2_saidHere_0 22 rfl rfl
theorem dksX2_saidHere_2 : cX2_saidHere.data.toList.drop 46 = dktX2_saidHere_2 := dk_seg dksX2_saidHere_1 24 rfl rfl
theorem dksX2_saidHere_3 : cX2_saidHere.data.toList.drop 68 = dktX2_saidHere_3 := dk_seg dksX2_saidHere_2 22 rfl rfl
theorem dksX2_saidHere_4 : cX2_saidHere.data.toList.drop 92 = dktX2_saidHere_4 := dk_seg dksX2_saidHere_3 24 rfl rfl
theorem dksX2_saidHere_5 : cX2_saidHere.data.toList.drop 116 = dktX2_saidHere_5 := dk_seg dksX2_saidHere_4 24 rfl rfl
theorem dksX2_saidHere_6 : cX2_saidHere.data.toList.drop 140 = dktX2_saidHere_6 := dk_seg dksX2_saidHere_5 24 rfl rfl
theorem dksX2_saidHere_7 : cX2_saidHere.data.toList.drop 164 = dktX2_saidHere_7 := dk_seg dksX2_saidHere_6 24 rfl rfl
theorem dksX2_saidHere_8 : cX2_saidHere.data.toList.drop 186 = dktX2_saidHere_8 := dk_seg dksX2_saidHere_7 22 rfl rfl
theorem dksX2_saidHere_9 : cX2_saidHere.data.toList.drop 210 = dktX2_saidHere_9 := dk_seg dksX2_saidHere_8 24 rfl rfl
theorem dX2_saidHere_0 : decode cX2_saidHere 0 = .ok (.aload_n 0, 1) := dk_42 (dk_at dksX2_saidHere_0 0 rfl rfl)
theorem dX2_saidHere_1 : decode cX2_saidHere 1 = .ok (.getfield 183, 3) := dk_180 0 183 (dk_at dksX2_saidHere_0 1 rfl rfl)
theorem dX2_saidHere_4 : decode cX2_saidHere 4 = .ok (.ifCond .eq 5, 3) := dk_153 0 5 (dk_at dksX2_saidHere_0 4 rfl rfl)
theorem dX2_saidHere_7 : decode cX2_saidHere 7 = .ok (.iconst (-1), 1) := dk_2 (dk_at dksX2_saidHere_0 7 rfl rfl)
theorem dX2_saidHere_8 : decode cX2_saidHere 8 = .ok (.ireturn, 1) := dk_172 (dk_at dksX2_saidHere_0 8 rfl rfl)
theorem dX2_saidHere_9 : decode cX2_saidHere 9 = .ok (.aload_n 0, 1) := dk_42 (dk_at dksX2_saidHere_0 9 rfl rfl)
theorem dX2_saidHere_10 : decode cX2_saidHere 10 = .ok (.getfield 173, 3) := dk_180 0 173 (dk_at dksX2_saidHere_0 10 rfl rfl)
theorem dX2_saidHere_13 : decode cX2_saidHere 13 = .ok (.iconst 2, 1) := dk_5 (dk_at dksX2_saidHere_0 13 rfl rfl)
theorem dX2_saidHere_14 : decode cX2_saidHere 14 = .ok (.if_icmp .ne 18, 3) := dk_160 0 18 (dk_at dksX2_saidHere_0 14 rfl rfl)
theorem dX2_saidHere_17 : decode cX2_saidHere 17 = .ok (.aload_n 0, 1) := dk_42 (dk_at dksX2_saidHere_0 17 rfl rfl)
theorem dX2_saidHere_18 : decode cX2_saidHere 18 = .ok (.getfield 170, 3) := dk_180 0 170 (dk_at dksX2_saidHere_0 18 rfl rfl)
theorem dX2_saidHere_21 : decode cX2_saidHere 21 = .ok (.iload_n 2, 1) := dk_28 (dk_at dksX2_saidHere_0 21 rfl rfl)
theorem dX2_saidHere_22 : decode cX2_saidHere 22 = .ok (.if_icmp .ge 10, 3) := dk_162 0 10 (dk_at dksX2_saidHere_1 0 rfl rfl)
theorem dX2_saidHere_25 : decode cX2_saidHere 25 = .ok (.aload_n 0, 1) := dk_42 (dk_at dksX2_saidHere_1 3 rfl rfl)
theorem dX2_saidHere_26 : decode cX2_saidHere 26 = .ok (.getfield 170, 3) := dk_180 0 170 (dk_at dksX2_saidHere_1 4 rfl rfl)
theorem dX2_saidHere_29 : decode cX2_saidHere 29 = .ok (.goto 4, 3) := dk_167 0 4 (dk_at dksX2_saidHere_1 7 rfl rfl)
theorem dX2_saidHere_32 : decode cX2_saidHere 32 = .ok (.iconst (-1), 1) := dk_2 (dk_at dksX2_saidHere_1 10 rfl rfl)
theorem dX2_saidHere_33 : decode cX2_saidHere 33 = .ok (.istore 5, 2) := dk_54 5 (dk_at dksX2_saidHere_1 11 rfl rfl)
theorem dX2_saidHere_35 : decode cX2_saidHere 35 = .ok (.bipush 12, 2) := dk_16 12 (dk_at dksX2_saidHere_1 13 rfl rfl)
theorem dX2_saidHere_37 : decode cX2_saidHere 37 = .ok (.iload_n 1, 1) := dk_27 (dk_at dksX2_saidHere_1 15 rfl rfl)
theorem dX2_saidHere_38 : decode cX2_saidHere 38 = .ok (.imul, 1) := dk_104 (dk_at dksX2_saidHere_1 16 rfl rfl)
theorem dX2_saidHere_39 : decode cX2_saidHere 39 = .ok (.iload 5, 2) := dk_21 5 (dk_at dksX2_saidHere_1 17 rfl rfl)
theorem dX2_saidHere_41 : decode cX2_saidHere 41 = .ok (.iadd, 1) := dk_96 (dk_at dksX2_saidHere_1 19 rfl rfl)
theorem dX2_saidHere_42 : decode cX2_saidHere 42 = .ok (.istore 6, 2) := dk_54 6 (dk_at dksX2_saidHere_1 20 rfl rfl)
theorem dX2_saidHere_44 : decode cX2_saidHere 44 = .ok (.iload 5, 2) := dk_21 5 (dk_at dksX2_saidHere_1 22 rfl rfl)
theorem dX2_saidHere_46 : decode cX2_saidHere 46 = .ok (.ifCond .lt 7, 3) := dk_155 0 7 (dk_at dksX2_saidHere_2 0 rfl rfl)
theorem dX2_saidHere_49 : decode cX2_saidHere 49 = .ok (.iconst 1, 1) := dk_4 (dk_at dksX2_saidHere_2 3 rfl rfl)
theorem dX2_saidHere_50 : decode cX2_saidHere 50 = .ok (.goto 4, 3) := dk_167 0 4 (dk_at dksX2_saidHere_2 4 rfl rfl)
theorem dX2_saidHere_53 : decode cX2_saidHere 53 = .ok (.iconst 0, 1) := dk_3 (dk_at dksX2_saidHere_2 7 rfl rfl)
theorem dX2_saidHere_54 : decode cX2_saidHere 54 = .ok (.istore 7, 2) := dk_54 7 (dk_at dksX2_saidHere_2 8 rfl rfl)
theorem dX2_saidHere_56 : decode cX2_saidHere 56 = .ok (.iload 7, 2) := dk_21 7 (dk_at dksX2_saidHere_2 10 rfl rfl)
theorem dX2_saidHere_58 : decode cX2_saidHere 58 = .ok (.ifCond .eq 52, 3) := dk_153 0 52 (dk_at dksX2_saidHere_2 12 rfl rfl)
theorem dX2_saidHere_61 : decode cX2_saidHere 61 = .ok (.iload_n 3, 1) := dk_29 (dk_at dksX2_saidHere_2 15 rfl rfl)
theorem dX2_saidHere_62 : decode cX2_saidHere 62 = .ok (.iconst 2, 1) := dk_5 (dk_at dksX2_saidHere_2 16 rfl rfl)
theorem dX2_saidHere_63 : decode cX2_saidHere 63 = .ok (.if_icmp .eq 14, 3) := dk_159 0 14 (dk_at dksX2_saidHere_2 17 rfl rfl)
theorem dX2_saidHere_66 : decode cX2_saidHere 66 = .ok (.iload_n 3, 1) := dk_29 (dk_at dksX2_saidHere_2 20 rfl rfl)
theorem dX2_saidHere_67 : decode cX2_saidHere 67 = .ok (.iconst 4, 1) := dk_7 (dk_at dksX2_saidHere_2 21 rfl rfl)
theorem dX2_saidHere_68 : decode cX2_saidHere 68 = .ok (.if_icmp .eq 9, 3) := dk_159 0 9 (dk_at dksX2_saidHere_3 0 rfl rfl)
theorem dX2_saidHere_71 : decode cX2_saidHere 71 = .ok (.iload_n 3, 1) := dk_29 (dk_at dksX2_saidHere_3 3 rfl rfl)
theorem dX2_saidHere_72 : decode cX2_saidHere 72 = .ok (.bipush 6, 2) := dk_16 6 (dk_at dksX2_saidHere_3 4 rfl rfl)
theorem dX2_saidHere_74 : decode cX2_saidHere 74 = .ok (.if_icmp .ne 36, 3) := dk_160 0 36 (dk_at dksX2_saidHere_3 6 rfl rfl)
theorem dX2_saidHere_77 : decode cX2_saidHere 77 = .ok (.aload_n 0, 1) := dk_42 (dk_at dksX2_saidHere_3 9 rfl rfl)
theorem dX2_saidHere_78 : decode cX2_saidHere 78 = .ok (.aload_n 0, 1) := dk_42 (dk_at dksX2_saidHere_3 10 rfl rfl)
theorem dX2_saidHere_79 : decode cX2_saidHere 79 = .ok (.getfield 22, 3) := dk_180 0 22 (dk_at dksX2_saidHere_3 11 rfl rfl)
theorem dX2_saidHere_82 : decode cX2_saidHere 82 = .ok (.iload 6, 2) := dk_21 6 (dk_at dksX2_saidHere_3 14 rfl rfl)
theorem dX2_saidHere_84 : decode cX2_saidHere 84 = .ok (.iaload, 1) := dk_46 (dk_at dksX2_saidHere_3 16 rfl rfl)
theorem dX2_saidHere_85 : decode cX2_saidHere 85 = .ok (.invokevirtual 257, 3) := dk_182 1 1 (dk_at dksX2_saidHere_3 17 rfl rfl)
theorem dX2_saidHere_88 : decode cX2_saidHere 88 = .ok (.ifCond .eq 19, 3) := dk_153 0 19 (dk_at dksX2_saidHere_3 20 rfl rfl)
theorem dX2_saidHere_91 : decode cX2_saidHere 91 = .ok (.aload_n 0, 1) := dk_42 (dk_at dksX2_saidHere_3 23 rfl rfl)
theorem dX2_saidHere_92 : decode cX2_saidHere 92 = .ok (.getfield 28, 3) := dk_180 0 28 (dk_at dksX2_saidHere_4 0 rfl rfl)
theorem dX2_saidHere_95 : decode cX2_saidHere 95 = .ok (.iload 6, 2) := dk_21 6 (dk_at dksX2_saidHere_4 3 rfl rfl)
theorem dX2_saidHere_97 : decode cX2_saidHere 97 = .ok (.iaload, 1) := dk_46 (dk_at dksX2_saidHere_4 5 rfl rfl)
theorem dX2_saidHere_98 : decode cX2_saidHere 98 = .ok (.iload 4, 2) := dk_21 4 (dk_at dksX2_saidHere_4 6 rfl rfl)
theorem dX2_saidHere_100 : decode cX2_saidHere 100 = .ok (.if_icmp .ne 7, 3) := dk_160 0 7 (dk_at dksX2_saidHere_4 8 rfl rfl)
theorem dX2_saidHere_103 : decode cX2_saidHere 103 = .ok (.iconst 1, 1) := dk_4 (dk_at dksX2_saidHere_4 11 rfl rfl)
theorem dX2_saidHere_104 : decode cX2_saidHere 104 = .ok (.goto 4, 3) := dk_167 0 4 (dk_at dksX2_saidHere_4 12 rfl rfl)
theorem dX2_saidHere_107 : decode cX2_saidHere 107 = .ok (.iconst 0, 1) := dk_3 (dk_at dksX2_saidHere_4 15 rfl rfl)
theorem dX2_saidHere_108 : decode cX2_saidHere 108 = .ok (.istore 7, 2) := dk_54 7 (dk_at dksX2_saidHere_4 16 rfl rfl)
theorem dX2_saidHere_110 : decode cX2_saidHere 110 = .ok (.iload 7, 2) := dk_21 7 (dk_at dksX2_saidHere_4 18 rfl rfl)
theorem dX2_saidHere_112 : decode cX2_saidHere 112 = .ok (.ifCond .eq 52, 3) := dk_153 0 52 (dk_at dksX2_saidHere_4 20 rfl rfl)
theorem dX2_saidHere_115 : decode cX2_saidHere 115 = .ok (.iload_n 3, 1) := dk_29 (dk_at dksX2_saidHere_4 23 rfl rfl)
theorem dX2_saidHere_116 : decode cX2_saidHere 116 = .ok (.iconst 5, 1) := dk_8 (dk_at dksX2_saidHere_5 0 rfl rfl)
theorem dX2_saidHere_117 : decode cX2_saidHere 117 = .ok (.if_icmp .ne 47, 3) := dk_160 0 47 (dk_at dksX2_saidHere_5 1 rfl rfl)
theorem dX2_saidHere_120 : decode cX2_saidHere 120 = .ok (.aload_n 0, 1) := dk_42 (dk_at dksX2_saidHere_5 4 rfl rfl)
theorem dX2_saidHere_121 : decode cX2_saidHere 121 = .ok (.aload_n 0, 1) := dk_42 (dk_at dksX2_saidHere_5 5 rfl rfl)
theorem dX2_saidHere_122 : decode cX2_saidHere 122 = .ok (.getfield 22, 3) := dk_180 0 22 (dk_at dksX2_saidHere_5 6 rfl rfl)
theorem dX2_saidHere_125 : decode cX2_saidHere 125 = .ok (.iload 6, 2) := dk_21 6 (dk_at dksX2_saidHere_5 9 rfl rfl)
theorem dX2_saidHere_127 : decode cX2_saidHere 127 = .ok (.iaload, 1) := dk_46 (dk_at dksX2_saidHere_5 11 rfl rfl)
theorem dX2_saidHere_128 : decode cX2_saidHere 128 = .ok (.invokevirtual 257, 3) := dk_182 1 1 (dk_at dksX2_saidHere_5 12 rfl rfl)
theorem dX2_saidHere_131 : decode cX2_saidHere 131 = .ok (.ifCond .ne 14, 3) := dk_154 0 14 (dk_at dksX2_saidHere_5 15 rfl rfl)
theorem dX2_saidHere_134 : decode cX2_saidHere 134 = .ok (.aload_n 0, 1) := dk_42 (dk_at dksX2_saidHere_5 18 rfl rfl)
theorem dX2_saidHere_135 : decode cX2_saidHere 135 = .ok (.getfield 22, 3) := dk_180 0 22 (dk_at dksX2_saidHere_5 19 rfl rfl)
theorem dX2_saidHere_138 : decode cX2_saidHere 138 = .ok (.iload 6, 2) := dk_21 6 (dk_at dksX2_saidHere_5 22 rfl rfl)
theorem dX2_saidHere_140 : decode cX2_saidHere 140 = .ok (.iaload, 1) := dk_46 (dk_at dksX2_saidHere_6 0 rfl rfl)
theorem dX2_saidHere_141 : decode cX2_saidHere 141 = .ok (.iconst 2, 1) := dk_5 (dk_at dksX2_saidHere_6 1 rfl rfl)
theorem dX2_saidHere_142 : decode cX2_saidHere 142 = .ok (.if_icmp .ne 19, 3) := dk_160 0 19 (dk_at dksX2_saidHere_6 2 rfl rfl)
theorem dX2_saidHere_145 : decode cX2_saidHere 145 = .ok (.aload_n 0, 1) := dk_42 (dk_at dksX2_saidHere_6 5 rfl rfl)
theorem dX2_saidHere_146 : decode cX2_saidHere 146 = .ok (.getfield 25, 3) := dk_180 0 25 (dk_at dksX2_saidHere_6 6 rfl rfl)
theorem dX2_saidHere_149 : decode cX2_saidHere 149 = .ok (.iload 6, 2) := dk_21 6 (dk_at dksX2_saidHere_6 9 rfl rfl)
theorem dX2_saidHere_151 : decode cX2_saidHere 151 = .ok (.iaload, 1) := dk_46 (dk_at dksX2_saidHere_6 11 rfl rfl)
theorem dX2_saidHere_152 : decode cX2_saidHere 152 = .ok (.iload 4, 2) := dk_21 4 (dk_at dksX2_saidHere_6 12 rfl rfl)
theorem dX2_saidHere_154 : decode cX2_saidHere 154 = .ok (.if_icmp .ne 7, 3) := dk_160 0 7 (dk_at dksX2_saidHere_6 14 rfl rfl)
theorem dX2_saidHere_157 : decode cX2_saidHere 157 = .ok (.iconst 1, 1) := dk_4 (dk_at dksX2_saidHere_6 17 rfl rfl)
theorem dX2_saidHere_158 : decode cX2_saidHere 158 = .ok (.goto 4, 3) := dk_167 0 4 (dk_at dksX2_saidHere_6 18 rfl rfl)
theorem dX2_saidHere_161 : decode cX2_saidHere 161 = .ok (.iconst 0, 1) := dk_3 (dk_at dksX2_saidHere_6 21 rfl rfl)
theorem dX2_saidHere_162 : decode cX2_saidHere 162 = .ok (.istore 7, 2) := dk_54 7 (dk_at dksX2_saidHere_6 22 rfl rfl)
theorem dX2_saidHere_164 : decode cX2_saidHere 164 = .ok (.iload 7, 2) := dk_21 7 (dk_at dksX2_saidHere_7 0 rfl rfl)
theorem dX2_saidHere_166 : decode cX2_saidHere 166 = .ok (.ifCond .eq 42, 3) := dk_153 0 42 (dk_at dksX2_saidHere_7 2 rfl rfl)
theorem dX2_saidHere_169 : decode cX2_saidHere 169 = .ok (.iload_n 3, 1) := dk_29 (dk_at dksX2_saidHere_7 5 rfl rfl)
theorem dX2_saidHere_170 : decode cX2_saidHere 170 = .ok (.bipush 7, 2) := dk_16 7 (dk_at dksX2_saidHere_7 6 rfl rfl)
theorem dX2_saidHere_172 : decode cX2_saidHere 172 = .ok (.if_icmp .ne 36, 3) := dk_160 0 36 (dk_at dksX2_saidHere_7 8 rfl rfl)
theorem dX2_saidHere_175 : decode cX2_saidHere 175 = .ok (.aload_n 0, 1) := dk_42 (dk_at dksX2_saidHere_7 11 rfl rfl)
theorem dX2_saidHere_176 : decode cX2_saidHere 176 = .ok (.aload_n 0, 1) := dk_42 (dk_at dksX2_saidHere_7 12 rfl rfl)
theorem dX2_saidHere_177 : decode cX2_saidHere 177 = .ok (.getfield 22, 3) := dk_180 0 22 (dk_at dksX2_saidHere_7 13 rfl rfl)
theorem dX2_saidHere_180 : decode cX2_saidHere 180 = .ok (.iload 6, 2) := dk_21 6 (dk_at dksX2_saidHere_7 16 rfl rfl)
theorem dX2_saidHere_182 : decode cX2_saidHere 182 = .ok (.iaload, 1) := dk_46 (dk_at dksX2_saidHere_7 18 rfl rfl)
theorem dX2_saidHere_183 : decode cX2_saidHere 183 = .ok (.invokevirtual 257, 3) := dk_182 1 1 (dk_at dksX2_saidHere_7 19 rfl rfl)
theorem dX2_saidHere_186 : decode cX2_saidHere 186 = .ok (.ifCond .eq 19, 3) := dk_153 0 19 (dk_at dksX2_saidHere_8 0 rfl rfl)
theorem dX2_saidHere_189 : decode cX2_saidHere 189 = .ok (.aload_n 0, 1) := dk_42 (dk_at dksX2_saidHere_8 3 rfl rfl)
theorem dX2_saidHere_190 : decode cX2_saidHere 190 = .ok (.getfield 25, 3) := dk_180 0 25 (dk_at dksX2_saidHere_8 4 rfl rfl)
theorem dX2_saidHere_193 : decode cX2_saidHere 193 = .ok (.iload 6, 2) := dk_21 6 (dk_at dksX2_saidHere_8 7 rfl rfl)
theorem dX2_saidHere_195 : decode cX2_saidHere 195 = .ok (.iaload, 1) := dk_46 (dk_at dksX2_saidHere_8 9 rfl rfl)
theorem dX2_saidHere_196 : decode cX2_saidHere 196 = .ok (.iload 4, 2) := dk_21 4 (dk_at dksX2_saidHere_8 10 rfl rfl)
theorem dX2_saidHere_198 : decode cX2_saidHere 198 = .ok (.if_icmp .ne 7, 3) := dk_160 0 7 (dk_at dksX2_saidHere_8 12 rfl rfl)
theorem dX2_saidHere_201 : decode cX2_saidHere 201 = .ok (.iconst 1, 1) := dk_4 (dk_at dksX2_saidHere_8 15 rfl rfl)
theorem dX2_saidHere_202 : decode cX2_saidHere 202 = .ok (.goto 4, 3) := dk_167 0 4 (dk_at dksX2_saidHere_8 16 rfl rfl)
theorem dX2_saidHere_205 : decode cX2_saidHere 205 = .ok (.iconst 0, 1) := dk_3 (dk_at dksX2_saidHere_8 19 rfl rfl)
theorem dX2_saidHere_206 : decode cX2_saidHere 206 = .ok (.istore 7, 2) := dk_54 7 (dk_at dksX2_saidHere_8 20 rfl rfl)
theorem dX2_saidHere_208 : decode cX2_saidHere 208 = .ok (.iload 7, 2) := dk_21 7 (dk_at dksX2_saidHere_8 22 rfl rfl)
theorem dX2_saidHere_210 : decode cX2_saidHere 210 = .ok (.ifCond .ne 10, 3) := dk_154 0 10 (dk_at dksX2_saidHere_9 0 rfl rfl)
theorem dX2_saidHere_213 : decode cX2_saidHere 213 = .ok (.aload_n 0, 1) := dk_42 (dk_at dksX2_saidHere_9 3 rfl rfl)
theorem dX2_saidHere_214 : decode cX2_saidHere 214 = .ok (.invokevirtual 194, 3) := dk_182 0 194 (dk_at dksX2_saidHere_9 4 rfl rfl)
theorem dX2_saidHere_217 : decode cX2_saidHere 217 = .ok (.goto 7, 3) := dk_167 0 7 (dk_at dksX2_saidHere_9 7 rfl rfl)
theorem dX2_saidHere_220 : decode cX2_saidHere 220 = .ok (.aload_n 0, 1) := dk_42 (dk_at dksX2_saidHere_9 10 rfl rfl)
theorem dX2_saidHere_221 : decode cX2_saidHere 221 = .ok (.invokevirtual 191, 3) := dk_182 0 191 (dk_at dksX2_saidHere_9 11 rfl rfl)
theorem dX2_saidHere_224 : decode cX2_saidHere 224 = .ok (.iload 5, 2) := dk_21 5 (dk_at dksX2_saidHere_9 14 rfl rfl)
theorem dX2_saidHere_226 : decode cX2_saidHere 226 = .ok (.ireturn, 1) := dk_172 (dk_at dksX2_saidHere_9 16 rfl rfl)
abbrev cX2_isOffer : ByteArray := prog_23_method_20_code
def yX2_isOffer : MethodName := ⟨RX2, "isOffer", "(I)Z"⟩
def dkwX2_isOffer_0 : List UInt8 := [27, 153, 0, 8, 27, 6, 160, 0, 7, 4, 167, 0, 4, 3, 172]
abbrev dktX2_isOffer_0 : List UInt8 := dkwX2_isOffer_0 ++ []
theorem dksX2_isOffer_0 : cX2_isOffer.data.toList.drop 0 = dktX2_isOffer_0 := by decide +kernel
theorem dX2_isOffer_0 : decode cX2_isOffer 0 = .ok (.iload_n 1, 1) := dk_27 (dk_at dksX2_isOffer_0 0 rfl rfl)
theorem dX2_isOffer_1 : decode cX2_isOffer 1 = .ok (.ifCond .eq 8, 3) := dk_153 0 8 (dk_at dksX2_isOffer_0 1 rfl rfl)
theorem dX2_isOffer_4 : decode cX2_isOffer 4 = .ok (.iload_n 1, 1) := dk_27 (dk_at dksX2_isOffer_0 4 rfl rfl)
theorem dX2_isOffer_5 : decode cX2_isOffer 5 = .ok (.iconst 3, 1) := dk_6 (dk_at dksX2_isOffer_0 5 rfl rfl)
theorem dX2_isOffer_6 : decode cX2_isOffer 6 = .ok (.if_icmp .ne 7, 3) := dk_160 0 7 (dk_at dksX2_isOffer_0 6 rfl rfl)
theorem dX2_isOffer_9 : decode cX2_isOffer 9 = .ok (.iconst 1, 1) := dk_4 (dk_at dksX2_isOffer_0 9 rfl rfl)
theorem dX2_isOffer_10 : decode cX2_isOffer 10 = .ok (.goto 4, 3) := dk_167 0 4 (dk_at dksX2_isOffer_0 10 rfl rfl)
theorem dX2_isOffer_13 : decode cX2_isOffer 13 = .ok (.iconst 0, 1) := dk_3 (dk_at dksX2_isOffer_0 13 rfl rfl)
theorem dX2_isOffer_14 : decode cX2_isOffer 14 = .ok (.ireturn, 1) := dk_172 (dk_at dksX2_isOffer_0 14 rfl rfl)
abbrev cX2_words : ByteArray := prog_23_method_17_code
def yX2_words : MethodName := ⟨RX2, "words", "(IZ)V"⟩
def dkwX2_words_2 : List UInt8 := [182, 0, 232, 79, 167, 255, 222, 177]
abbrev dktX2_words_2 : List UInt8 := dkwX2_words_2 ++ []
def dkwX2_words_1 : List UInt8 := [182, 0, 229, 62, 42, 182, 0, 191, 42, 180, 0, 46, 8, 27, 104, 29, 96, 42, 3, 17, 3, 231]
abbrev dktX2_words_1 : List UInt8 := dkwX2_words_1 ++ dktX2_words_2
def dkwX2_words_0 : List UInt8 := [28, 153, 0, 14, 42, 182, 0, 229, 156, 0, 7, 42, 182, 0, 194, 42, 182, 0, 229, 155, 0, 33, 42]
abbrev dktX2_words_0 : List UInt8 := dkwX2_words_0 ++ dktX2_words_1
theorem dksX2_words_0 : cX2_words.data.toList.drop 0 = dktX2_words_0 := by decide +kernel
theorem dksX2_words_1 : cX2_words.data.toList.drop 23 = dktX2_words_1 := dk_seg dksX2_words_0 23 rfl rfl
theorem dksX2_words_2 : cX2_words.data.toList.drop 45 = dktX2_words_2 := dk_seg dksX2_words_1 22 rfl rfl
theorem dX2_words_0 : decode cX2_words 0 = .ok (.iload_n 2, 1) := dk_28 (dk_at dksX2_words_0 0 rfl rfl)
theorem dX2_words_1 : decode cX2_words 1 = .ok (.ifCond .eq 14, 3) := dk_153 0 14 (dk_at dksX2_words_0 1 rfl rfl)
theorem dX2_words_4 : decode cX2_words 4 = .ok (.aload_n 0, 1) := dk_42 (dk_at dksX2_words_0 4 rfl rfl)
theorem dX2_words_5 : decode cX2_words 5 = .ok (.invokevirtual 229, 3) := dk_182 0 229 (dk_at dksX2_words_0 5 rfl rfl)
theorem dX2_words_8 : decode cX2_words 8 = .ok (.ifCond .ge 7, 3) := dk_156 0 7 (dk_at dksX2_words_0 8 rfl rfl)
theorem dX2_words_11 : decode cX2_words 11 = .ok (.aload_n 0, 1) := dk_42 (dk_at dksX2_words_0 11 rfl rfl)
theorem dX2_words_12 : decode cX2_words 12 = .ok (.invokevirtual 194, 3) := dk_182 0 194 (dk_at dksX2_words_0 12 rfl rfl)
theorem dX2_words_15 : decode cX2_words 15 = .ok (.aload_n 0, 1) := dk_42 (dk_at dksX2_words_0 15 rfl rfl)
theorem dX2_words_16 : decode cX2_words 16 = .ok (.invokevirtual 229, 3) := dk_182 0 229 (dk_at dksX2_words_0 16 rfl rfl)
theorem dX2_words_19 : decode cX2_words 19 = .ok (.ifCond .lt 33, 3) := dk_155 0 33 (dk_at dksX2_words_0 19 rfl rfl)
theorem dX2_words_22 : decode cX2_words 22 = .ok (.aload_n 0, 1) := dk_42 (dk_at dksX2_words_0 22 rfl rfl)
theorem dX2_words_23 : decode cX2_words 23 = .ok (.invokevirtual 229, 3) := dk_182 0 229 (dk_at dksX2_words_1 0 rfl rfl)
theorem dX2_words_26 : decode cX2_words 26 = .ok (.istore_n 3, 1) := dk_62 (dk_at dksX2_words_1 3 rfl rfl)
theorem dX2_words_27 : decode cX2_words 27 = .ok (.aload_n 0, 1) := dk_42 (dk_at dksX2_words_1 4 rfl rfl)
theorem dX2_words_28 : decode cX2_words 28 = .ok (.invokevirtual 191, 3) := dk_182 0 191 (dk_at dksX2_words_1 5 rfl rfl)
theorem dX2_words_31 : decode cX2_words 31 = .ok (.aload_n 0, 1) := dk_42 (dk_at dksX2_words_1 8 rfl rfl)
theorem dX2_words_32 : decode cX2_words 32 = .ok (.getfield 46, 3) := dk_180 0 46 (dk_at dksX2_words_1 9 rfl rfl)
theorem dX2_words_35 : decode cX2_words 35 = .ok (.iconst 5, 1) := dk_8 (dk_at dksX2_words_1 12 rfl rfl)
theorem dX2_words_36 : decode cX2_words 36 = .ok (.iload_n 1, 1) := dk_27 (dk_at dksX2_words_1 13 rfl rfl)
theorem dX2_words_37 : decode cX2_words 37 = .ok (.imul, 1) := dk_104 (dk_at dksX2_words_1 14 rfl rfl)
theorem dX2_words_38 : decode cX2_words 38 = .ok (.iload_n 3, 1) := dk_29 (dk_at dksX2_words_1 15 rfl rfl)
theorem dX2_words_39 : decode cX2_words 39 = .ok (.iadd, 1) := dk_96 (dk_at dksX2_words_1 16 rfl rfl)
theorem dX2_words_40 : decode cX2_words 40 = .ok (.aload_n 0, 1) := dk_42 (dk_at dksX2_words_1 17 rfl rfl)
theorem dX2_words_41 : decode cX2_words 41 = .ok (.iconst 0, 1) := dk_3 (dk_at dksX2_words_1 18 rfl rfl)
theorem dX2_words_42 : decode cX2_words 42 = .ok (.sipush 999, 3) := dk_17 3 231 (dk_at dksX2_words_1 19 rfl rfl)
theorem dX2_words_45 : decode cX2_words 45 = .ok (.invokevirtual 232, 3) := dk_182 0 232 (dk_at dksX2_words_2 0 rfl rfl)
theorem dX2_words_48 : decode cX2_words 48 = .ok (.iastore, 1) := dk_79 (dk_at dksX2_words_2 3 rfl rfl)
theorem dX2_words_49 : decode cX2_words 49 = .ok (.goto (-34), 3) := dk_167 255 222 (dk_at dksX2_words_2 4 rfl rfl)
theorem dX2_words_52 : decode cX2_words 52 = .ok (.return_, 1) := dk_177 (dk_at dksX2_words_2 7 rfl rfl)
abbrev cX2_wordHere : ByteArray := prog_23_method_14_code
def yX2_wordHere : MethodName := ⟨RX2, "wordHere", "()I"⟩
def dkwX2_wordHere_3 : List UInt8 := [180, 0, 166, 20, 0, 207, 148, 154, 0, 5, 7, 172, 2, 172]
abbrev dktX2_wordHere_3 : List UInt8 := dkwX2_wordHere_3 ++ []
def dkwX2_wordHere_2 : List UInt8 := [20, 0, 203, 148, 154, 0, 5, 5, 172, 42, 180, 0, 166, 20, 0, 205, 148, 154, 0, 5, 6, 172, 42]
abbrev dktX2_wordHere_2 : List UInt8 := dkwX2_wordHere_2 ++ dktX2_wordHere_3
def dkwX2_wordHere_1 : List UInt8 := [148, 154, 0, 5, 3, 172, 42, 180, 0, 166, 20, 0, 201, 148, 154, 0, 5, 4, 172, 42, 180, 0, 166]
abbrev dktX2_wordHere_1 : List UInt8 := dkwX2_wordHere_1 ++ dktX2_wordHere_2
def dkwX2_wordHere_0 : List UInt8 := [42, 180, 0, 183, 154, 0, 11, 42, 180, 0, 173, 4, 159, 0, 5, 2, 172, 42, 180, 0, 166, 20, 0, 199]
abbrev dktX2_wordHere_0 : List UInt8 := dkwX2_wordHere_0 ++ dktX2_wordHere_1
theorem dksX2_wordHere_0 : cX2_wordHere.data.toList.drop 0 = dktX2_wordHere_0 := by decide +kernel
theorem dksX2_wordHere_1 : cX2_wordHere.data.toList.drop 24 = dktX2_wordHere_1 := dk_seg dksX2_wordHere_0 24 rfl rfl
theorem dksX2_wordHere_2 : cX2_wordHere.data.toList.drop 47 = dktX2_wordHere_2 := dk_seg dksX2_wordHere_1 23 rfl rfl
theorem dksX2_wordHere_3 : cX2_wordHere.data.toList.drop 70 = dktX2_wordHere_3 := dk_seg dksX2_wordHere_2 23 rfl rfl
theorem dX2_wordHere_0 : decode cX2_wordHere 0 = .ok (.aload_n 0, 1) := dk_42 (dk_at dksX2_wordHere_0 0 rfl rfl)
theorem dX2_wordHere_1 : decode cX2_wordHere 1 = .ok (.getfield 183, 3) := dk_180 0 183 (dk_at dksX2_wordHere_0 1 rfl rfl)
theorem dX2_wordHere_4 : decode cX2_wordHere 4 = .ok (.ifCond .ne 11, 3) := dk_154 0 11 (dk_at dksX2_wordHere_0 4 rfl rfl)
theorem dX2_wordHere_7 : decode cX2_wordHere 7 = .ok (.aload_n 0, 1) := dk_42 (dk_at dksX2_wordHere_0 7 rfl rfl)
theorem dX2_wordHere_8 : decode cX2_wordHere 8 = .ok (.getfield 173, 3) := dk_180 0 173 (dk_at dksX2_wordHere_0 8 rfl rfl)
theorem dX2_wordHere_11 : decode cX2_wordHere 11 = .ok (.iconst 1, 1) := dk_4 (dk_at dksX2_wordHere_0 11 rfl rfl)
theorem dX2_wordHere_12 : decode cX2_wordHere 12 = .ok (.if_icmp .eq 5, 3) := dk_159 0 5 (dk_at dksX2_wordHere_0 12 rfl rfl)
theorem dX2_wordHere_15 : decode cX2_wordHere 15 = .ok (.iconst (-1), 1) := dk_2 (dk_at dksX2_wordHere_0 15 rfl rfl)
theorem dX2_wordHere_16 : decode cX2_wordHere 16 = .ok (.ireturn, 1) := dk_172 (dk_at dksX2_wordHere_0 16 rfl rfl)
theorem dX2_wordHere_17 : decode cX2_wordHere 17 = .ok (.aload_n 0, 1) := dk_42 (dk_at dksX2_wordHere_0 17 rfl rfl)
theorem dX2_wordHere_18 : decode cX2_wordHere 18 = .ok (.getfield 166, 3) := dk_180 0 166 (dk_at dksX2_wordHere_0 18 rfl rfl)
theorem dX2_wordHere_21 : decode cX2_wordHere 21 = .ok (.ldc2_w 199, 3) := dk_20 0 199 (dk_at dksX2_wordHere_0 21 rfl rfl)
theorem dX2_wordHere_24 : decode cX2_wordHere 24 = .ok (.lcmp, 1) := dk_148 (dk_at dksX2_wordHere_1 0 rfl rfl)
theorem dX2_wordHere_25 : decode cX2_wordHere 25 = .ok (.ifCond .ne 5, 3) := dk_154 0 5 (dk_at dksX2_wordHere_1 1 rfl rfl)
theorem dX2_wordHere_28 : decode cX2_wordHere 28 = .ok (.iconst 0, 1) := dk_3 (dk_at dksX2_wordHere_1 4 rfl rfl)
theorem dX2_wordHere_29 : decode cX2_wordHere 29 = .ok (.ireturn, 1) := dk_172 (dk_at dksX2_wordHere_1 5 rfl rfl)
theorem dX2_wordHere_30 : decode cX2_wordHere 30 = .ok (.aload_n 0, 1) := dk_42 (dk_at dksX2_wordHere_1 6 rfl rfl)
theorem dX2_wordHere_31 : decode cX2_wordHere 31 = .ok (.getfield 166, 3) := dk_180 0 166 (dk_at dksX2_wordHere_1 7 rfl rfl)
theorem dX2_wordHere_34 : decode cX2_wordHere 34 = .ok (.ldc2_w 201, 3) := dk_20 0 201 (dk_at dksX2_wordHere_1 10 rfl rfl)
theorem dX2_wordHere_37 : decode cX2_wordHere 37 = .ok (.lcmp, 1) := dk_148 (dk_at dksX2_wordHere_1 13 rfl rfl)
theorem dX2_wordHere_38 : decode cX2_wordHere 38 = .ok (.ifCond .ne 5, 3) := dk_154 0 5 (dk_at dksX2_wordHere_1 14 rfl rfl)
theorem dX2_wordHere_41 : decode cX2_wordHere 41 = .ok (.iconst 1, 1) := dk_4 (dk_at dksX2_wordHere_1 17 rfl rfl)
theorem dX2_wordHere_42 : decode cX2_wordHere 42 = .ok (.ireturn, 1) := dk_172 (dk_at dksX2_wordHere_1 18 rfl rfl)
theorem dX2_wordHere_43 : decode cX2_wordHere 43 = .ok (.aload_n 0, 1) := dk_42 (dk_at dksX2_wordHere_1 19 rfl rfl)
theorem dX2_wordHere_44 : decode cX2_wordHere 44 = .ok (.getfield 166, 3) := dk_180 0 166 (dk_at dksX2_wordHere_1 20 rfl rfl)
theorem dX2_wordHere_47 : decode cX2_wordHere 47 = .ok (.ldc2_w 203, 3) := dk_20 0 203 (dk_at dksX2_wordHere_2 0 rfl rfl)
theorem dX2_wordHere_50 : decode cX2_wordHere 50 = .ok (.lcmp, 1) := dk_148 (dk_at dksX2_wordHere_2 3 rfl rfl)
theorem dX2_wordHere_51 : decode cX2_wordHere 51 = .ok (.ifCond .ne 5, 3) := dk_154 0 5 (dk_at dksX2_wordHere_2 4 rfl rfl)
theorem dX2_wordHere_54 : decode cX2_wordHere 54 = .ok (.iconst 2, 1) := dk_5 (dk_at dksX2_wordHere_2 7 rfl rfl)
theorem dX2_wordHere_55 : decode cX2_wordHere 55 = .ok (.ireturn, 1) := dk_172 (dk_at dksX2_wordHere_2 8 rfl rfl)
theorem dX2_wordHere_56 : decode cX2_wordHere 56 = .ok (.aload_n 0, 1) := dk_42 (dk_at dksX2_wordHere_2 9 rfl rfl)
theorem dX2_wordHere_57 : decode cX2_wordHere 57 = .ok (.getfield 166, 3) := dk_180 0 166 (dk_at dksX2_wordHere_2 10 rfl rfl)
theorem dX2_wordHere_60 : decode cX2_wordHere 60 = .ok (.ldc2_w 205, 3) := dk_20 0 205 (dk_at dksX2_wordHere_2 13 rfl rfl)
theorem dX2_wordHere_63 : decode cX2_wordHere 63 = .ok (.lcmp, 1) := dk_148 (dk_at dksX2_wordHere_2 16 rfl rfl)
theorem dX2_wordHere_64 : decode cX2_wordHere 64 = .ok (.ifCond .ne 5, 3) := dk_154 0 5 (dk_at dksX2_wordHere_2 17 rfl rfl)
theorem dX2_wordHere_67 : decode cX2_wordHere 67 = .ok (.iconst 3, 1) := dk_6 (dk_at dksX2_wordHere_2 20 rfl rfl)
theorem dX2_wordHere_68 : decode cX2_wordHere 68 = .ok (.ireturn, 1) := dk_172 (dk_at dksX2_wordHere_2 21 rfl rfl)
theorem dX2_wordHere_69 : decode cX2_wordHere 69 = .ok (.aload_n 0, 1) := dk_42 (dk_at dksX2_wordHere_2 22 rfl rfl)
theorem dX2_wordHere_70 : decode cX2_wordHere 70 = .ok (.getfield 166, 3) := dk_180 0 166 (dk_at dksX2_wordHere_3 0 rfl rfl)
theorem dX2_wordHere_73 : decode cX2_wordHere 73 = .ok (.ldc2_w 207, 3) := dk_20 0 207 (dk_at dksX2_wordHere_3 3 rfl rfl)
theorem dX2_wordHere_76 : decode cX2_wordHere 76 = .ok (.lcmp, 1) := dk_148 (dk_at dksX2_wordHere_3 6 rfl rfl)
theorem dX2_wordHere_77 : decode cX2_wordHere 77 = .ok (.ifCond .ne 5, 3) := dk_154 0 5 (dk_at dksX2_wordHere_3 7 rfl rfl)
theorem dX2_wordHere_80 : decode cX2_wordHere 80 = .ok (.iconst 4, 1) := dk_7 (dk_at dksX2_wordHere_3 10 rfl rfl)
theorem dX2_wordHere_81 : decode cX2_wordHere 81 = .ok (.ireturn, 1) := dk_172 (dk_at dksX2_wordHere_3 11 rfl rfl)
theorem dX2_wordHere_82 : decode cX2_wordHere 82 = .ok (.iconst (-1), 1) := dk_2 (dk_at dksX2_wordHere_3 12 rfl rfl)
theorem dX2_wordHere_83 : decode cX2_wordHere 83 = .ok (.ireturn, 1) := dk_172 (dk_at dksX2_wordHere_3 13 rfl rfl)
abbrev cX2_numeral : ByteArray := prog_23_method_10_code
def yX2_numeral : MethodName := ⟨RX2, "numeral", "(II)I"⟩
def dkwX2_numeral_1 : List UInt8 := [161, 0, 8, 29, 28, 164, 0, 9, 42, 182, 0, 194, 3, 172, 42, 182, 0, 191, 29, 172]
abbrev dktX2_numeral_1 : List UInt8 := dkwX2_numeral_1 ++ []
def dkwX2_numeral_0 : List UInt8 := [42, 180, 0, 170, 62, 42, 180, 0, 183, 153, 0, 5, 3, 172, 42, 180, 0, 173, 5, 160, 0, 13, 29, 27]
abbrev dktX2_numeral_0 : List UInt8 := dkwX2_numeral_0 ++ dktX2_numeral_1
theorem dksX2_numeral_0 : cX2_numeral.data.toList.drop 0 = dktX2_numeral_0 := by decide +kernel
theorem dksX2_numeral_1 : cX2_numeral.data.toList.drop 24 = dktX2_numeral_1 := dk_seg dksX2_numeral_0 24 rfl rfl
theorem dX2_numeral_0 : decode cX2_numeral 0 = .ok (.aload_n 0, 1) := dk_42 (dk_at dksX2_numeral_0 0 rfl rfl)
theorem dX2_numeral_1 : decode cX2_numeral 1 = .ok (.getfield 170, 3) := dk_180 0 170 (dk_at dksX2_numeral_0 1 rfl rfl)
theorem dX2_numeral_4 : decode cX2_numeral 4 = .ok (.istore_n 3, 1) := dk_62 (dk_at dksX2_numeral_0 4 rfl rfl)
theorem dX2_numeral_5 : decode cX2_numeral 5 = .ok (.aload_n 0, 1) := dk_42 (dk_at dksX2_numeral_0 5 rfl rfl)
theorem dX2_numeral_6 : decode cX2_numeral 6 = .ok (.getfield 183, 3) := dk_180 0 183 (dk_at dksX2_numeral_0 6 rfl rfl)
theorem dX2_numeral_9 : decode cX2_numeral 9 = .ok (.ifCond .eq 5, 3) := dk_153 0 5 (dk_at dksX2_numeral_0 9 rfl rfl)
theorem dX2_numeral_12 : decode cX2_numeral 12 = .ok (.iconst 0, 1) := dk_3 (dk_at dksX2_numeral_0 12 rfl rfl)
theorem dX2_numeral_13 : decode cX2_numeral 13 = .ok (.ireturn, 1) := dk_172 (dk_at dksX2_numeral_0 13 rfl rfl)
theorem dX2_numeral_14 : decode cX2_numeral 14 = .ok (.aload_n 0, 1) := dk_42 (dk_at dksX2_numeral_0 14 rfl rfl)
theorem dX2_numeral_15 : decode cX2_numeral 15 = .ok (.getfield 173, 3) := dk_180 0 173 (dk_at dksX2_numeral_0 15 rfl rfl)
theorem dX2_numeral_18 : decode cX2_numeral 18 = .ok (.iconst 2, 1) := dk_5 (dk_at dksX2_numeral_0 18 rfl rfl)
theorem dX2_numeral_19 : decode cX2_numeral 19 = .ok (.if_icmp .ne 13, 3) := dk_160 0 13 (dk_at dksX2_numeral_0 19 rfl rfl)
theorem dX2_numeral_22 : decode cX2_numeral 22 = .ok (.iload_n 3, 1) := dk_29 (dk_at dksX2_numeral_0 22 rfl rfl)
theorem dX2_numeral_23 : decode cX2_numeral 23 = .ok (.iload_n 1, 1) := dk_27 (dk_at dksX2_numeral_0 23 rfl rfl)
theorem dX2_numeral_24 : decode cX2_numeral 24 = .ok (.if_icmp .lt 8, 3) := dk_161 0 8 (dk_at dksX2_numeral_1 0 rfl rfl)
theorem dX2_numeral_27 : decode cX2_numeral 27 = .ok (.iload_n 3, 1) := dk_29 (dk_at dksX2_numeral_1 3 rfl rfl)
theorem dX2_numeral_28 : decode cX2_numeral 28 = .ok (.iload_n 2, 1) := dk_28 (dk_at dksX2_numeral_1 4 rfl rfl)
theorem dX2_numeral_29 : decode cX2_numeral 29 = .ok (.if_icmp .le 9, 3) := dk_164 0 9 (dk_at dksX2_numeral_1 5 rfl rfl)
theorem dX2_numeral_32 : decode cX2_numeral 32 = .ok (.aload_n 0, 1) := dk_42 (dk_at dksX2_numeral_1 8 rfl rfl)
theorem dX2_numeral_33 : decode cX2_numeral 33 = .ok (.invokevirtual 194, 3) := dk_182 0 194 (dk_at dksX2_numeral_1 9 rfl rfl)
theorem dX2_numeral_36 : decode cX2_numeral 36 = .ok (.iconst 0, 1) := dk_3 (dk_at dksX2_numeral_1 12 rfl rfl)
theorem dX2_numeral_37 : decode cX2_numeral 37 = .ok (.ireturn, 1) := dk_172 (dk_at dksX2_numeral_1 13 rfl rfl)
theorem dX2_numeral_38 : decode cX2_numeral 38 = .ok (.aload_n 0, 1) := dk_42 (dk_at dksX2_numeral_1 14 rfl rfl)
theorem dX2_numeral_39 : decode cX2_numeral 39 = .ok (.invokevirtual 191, 3) := dk_182 0 191 (dk_at dksX2_numeral_1 15 rfl rfl)
theorem dX2_numeral_42 : decode cX2_numeral 42 = .ok (.iload_n 3, 1) := dk_29 (dk_at dksX2_numeral_1 18 rfl rfl)
theorem dX2_numeral_43 : decode cX2_numeral 43 = .ok (.ireturn, 1) := dk_172 (dk_at dksX2_numeral_1 19 rfl rfl)
abbrev cX2_is : ByteArray := prog_23_method_8_code
def yX2_is : MethodName := ⟨RX2, "is", "(J)Z"⟩
def dkwX2_is_1 : List UInt8 := [4, 167, 0, 4, 3, 172]
abbrev dktX2_is_1 : List UInt8 := dkwX2_is_1 ++ []
def dkwX2_is_0 : List UInt8 := [42, 180, 0, 183, 154, 0, 24, 42, 180, 0, 173, 4, 160, 0, 16, 42, 180, 0, 166, 31, 148, 154, 0, 7]
abbrev dktX2_is_0 : List UInt8 := dkwX2_is_0 ++ dktX2_is_1
theorem dksX2_is_0 : cX2_is.data.toList.drop 0 = dktX2_is_0 := by decide +kernel
theorem dksX2_is_1 : cX2_is.data.toList.drop 24 = dktX2_is_1 := dk_seg dksX2_is_0 24 rfl rfl
theorem dX2_is_0 : decode cX2_is 0 = .ok (.aload_n 0, 1) := dk_42 (dk_at dksX2_is_0 0 rfl rfl)
theorem dX2_is_1 : decode cX2_is 1 = .ok (.getfield 183, 3) := dk_180 0 183 (dk_at dksX2_is_0 1 rfl rfl)
theorem dX2_is_4 : decode cX2_is 4 = .ok (.ifCond .ne 24, 3) := dk_154 0 24 (dk_at dksX2_is_0 4 rfl rfl)
theorem dX2_is_7 : decode cX2_is 7 = .ok (.aload_n 0, 1) := dk_42 (dk_at dksX2_is_0 7 rfl rfl)
theorem dX2_is_8 : decode cX2_is 8 = .ok (.getfield 173, 3) := dk_180 0 173 (dk_at dksX2_is_0 8 rfl rfl)
theorem dX2_is_11 : decode cX2_is 11 = .ok (.iconst 1, 1) := dk_4 (dk_at dksX2_is_0 11 rfl rfl)
theorem dX2_is_12 : decode cX2_is 12 = .ok (.if_icmp .ne 16, 3) := dk_160 0 16 (dk_at dksX2_is_0 12 rfl rfl)
theorem dX2_is_15 : decode cX2_is 15 = .ok (.aload_n 0, 1) := dk_42 (dk_at dksX2_is_0 15 rfl rfl)
theorem dX2_is_16 : decode cX2_is 16 = .ok (.getfield 166, 3) := dk_180 0 166 (dk_at dksX2_is_0 16 rfl rfl)
theorem dX2_is_19 : decode cX2_is 19 = .ok (.lload_n 1, 1) := dk_31 (dk_at dksX2_is_0 19 rfl rfl)
theorem dX2_is_20 : decode cX2_is 20 = .ok (.lcmp, 1) := dk_148 (dk_at dksX2_is_0 20 rfl rfl)
theorem dX2_is_21 : decode cX2_is 21 = .ok (.ifCond .ne 7, 3) := dk_154 0 7 (dk_at dksX2_is_0 21 rfl rfl)
theorem dX2_is_24 : decode cX2_is 24 = .ok (.iconst 1, 1) := dk_4 (dk_at dksX2_is_1 0 rfl rfl)
theorem dX2_is_25 : decode cX2_is 25 = .ok (.goto 4, 3) := dk_167 0 4 (dk_at dksX2_is_1 1 rfl rfl)
theorem dX2_is_28 : decode cX2_is 28 = .ok (.iconst 0, 1) := dk_3 (dk_at dksX2_is_1 4 rfl rfl)
theorem dX2_is_29 : decode cX2_is 29 = .ok (.ireturn, 1) := dk_172 (dk_at dksX2_is_1 5 rfl rfl)
abbrev cX2_times : ByteArray := prog_23_method_19_code
def yX2_times : MethodName := ⟨RX2, "times", "(I)V"⟩
def dkwX2_times_4 : List UInt8 := [153, 0, 14, 42, 182, 0, 191, 42, 180, 0, 43, 27, 4, 79, 177]
abbrev dktX2_times_4 : List UInt8 := dkwX2_times_4 ++ []
def dkwX2_times_3 : List UInt8 := [153, 0, 16, 42, 182, 0, 191, 42, 27, 5, 17, 3, 231, 182, 0, 247, 42, 20, 0, 255, 182, 0, 187]
abbrev dktX2_times_3 : List UInt8 := dkwX2_times_3 ++ dktX2_times_4
def dkwX2_times_2 : List UInt8 := [20, 0, 251, 182, 0, 243, 42, 27, 4, 17, 3, 231, 182, 0, 247, 42, 20, 0, 253, 182, 0, 187]
abbrev dktX2_times_2 : List UInt8 := dkwX2_times_2 ++ dktX2_times_3
def dkwX2_times_1 : List UInt8 := [79, 42, 20, 0, 241, 182, 0, 243, 42, 27, 3, 17, 7, 207, 182, 0, 247, 28, 4, 164, 0, 4, 177, 42]
abbrev dktX2_times_1 : List UInt8 := dkwX2_times_1 ++ dktX2_times_2
def dkwX2_times_0 : List UInt8 := [42, 182, 0, 238, 61, 28, 156, 0, 8, 42, 182, 0, 194, 177, 42, 182, 0, 191, 42, 180, 0, 34, 27, 28]
abbrev dktX2_times_0 : List UInt8 := dkwX2_times_0 ++ dktX2_times_1
theorem dksX2_times_0 : cX2_times.data.toList.drop 0 = dktX2_times_0 := by decide +kernel
theorem dksX2_times_1 : cX2_times.data.toList.drop 24 = dktX2_times_1 := dk_seg dksX2_times_0 24 rfl rfl
theorem dksX2_times_2 : cX2_times.data.toList.drop 48 = dktX2_times_2 := dk_seg dksX2_times_1 24 rfl rfl
theorem dksX2_times_3 : cX2_times.data.toList.drop 70 = dktX2_times_3 := dk_seg dksX2_times_2 22 rfl rfl
theorem dksX2_times_4 : cX2_times.data.toList.drop 93 = dktX2_times_4 := dk_seg dksX2_times_3 23 rfl rfl
theorem dX2_times_0 : decode cX2_times 0 = .ok (.aload_n 0, 1) := dk_42 (dk_at dksX2_times_0 0 rfl rfl)
theorem dX2_times_1 : decode cX2_times 1 = .ok (.invokevirtual 238, 3) := dk_182 0 238 (dk_at dksX2_times_0 1 rfl rfl)
theorem dX2_times_4 : decode cX2_times 4 = .ok (.istore_n 2, 1) := dk_61 (dk_at dksX2_times_0 4 rfl rfl)
theorem dX2_times_5 : decode cX2_times 5 = .ok (.iload_n 2, 1) := dk_28 (dk_at dksX2_times_0 5 rfl rfl)
theorem dX2_times_6 : decode cX2_times 6 = .ok (.ifCond .ge 8, 3) := dk_156 0 8 (dk_at dksX2_times_0 6 rfl rfl)
theorem dX2_times_9 : decode cX2_times 9 = .ok (.aload_n 0, 1) := dk_42 (dk_at dksX2_times_0 9 rfl rfl)
theorem dX2_times_10 : decode cX2_times 10 = .ok (.invokevirtual 194, 3) := dk_182 0 194 (dk_at dksX2_times_0 10 rfl rfl)
theorem dX2_times_13 : decode cX2_times 13 = .ok (.return_, 1) := dk_177 (dk_at dksX2_times_0 13 rfl rfl)
theorem dX2_times_14 : decode cX2_times 14 = .ok (.aload_n 0, 1) := dk_42 (dk_at dksX2_times_0 14 rfl rfl)
theorem dX2_times_15 : decode cX2_times 15 = .ok (.invokevirtual 191, 3) := dk_182 0 191 (dk_at dksX2_times_0 15 rfl rfl)
theorem dX2_times_18 : decode cX2_times 18 = .ok (.aload_n 0, 1) := dk_42 (dk_at dksX2_times_0 18 rfl rfl)
theorem dX2_times_19 : decode cX2_times 19 = .ok (.getfield 34, 3) := dk_180 0 34 (dk_at dksX2_times_0 19 rfl rfl)
theorem dX2_times_22 : decode cX2_times 22 = .ok (.iload_n 1, 1) := dk_27 (dk_at dksX2_times_0 22 rfl rfl)
theorem dX2_times_23 : decode cX2_times 23 = .ok (.iload_n 2, 1) := dk_28 (dk_at dksX2_times_0 23 rfl rfl)
theorem dX2_times_24 : decode cX2_times 24 = .ok (.iastore, 1) := dk_79 (dk_at dksX2_times_1 0 rfl rfl)
theorem dX2_times_25 : decode cX2_times 25 = .ok (.aload_n 0, 1) := dk_42 (dk_at dksX2_times_1 1 rfl rfl)
theorem dX2_times_26 : decode cX2_times 26 = .ok (.ldc2_w 241, 3) := dk_20 0 241 (dk_at dksX2_times_1 2 rfl rfl)
theorem dX2_times_29 : decode cX2_times 29 = .ok (.invokevirtual 243, 3) := dk_182 0 243 (dk_at dksX2_times_1 5 rfl rfl)
theorem dX2_times_32 : decode cX2_times 32 = .ok (.aload_n 0, 1) := dk_42 (dk_at dksX2_times_1 8 rfl rfl)
theorem dX2_times_33 : decode cX2_times 33 = .ok (.iload_n 1, 1) := dk_27 (dk_at dksX2_times_1 9 rfl rfl)
theorem dX2_times_34 : decode cX2_times 34 = .ok (.iconst 0, 1) := dk_3 (dk_at dksX2_times_1 10 rfl rfl)
theorem dX2_times_35 : decode cX2_times 35 = .ok (.sipush 1999, 3) := dk_17 7 207 (dk_at dksX2_times_1 11 rfl rfl)
theorem dX2_times_38 : decode cX2_times 38 = .ok (.invokevirtual 247, 3) := dk_182 0 247 (dk_at dksX2_times_1 14 rfl rfl)
theorem dX2_times_41 : decode cX2_times 41 = .ok (.iload_n 2, 1) := dk_28 (dk_at dksX2_times_1 17 rfl rfl)
theorem dX2_times_42 : decode cX2_times 42 = .ok (.iconst 1, 1) := dk_4 (dk_at dksX2_times_1 18 rfl rfl)
theorem dX2_times_43 : decode cX2_times 43 = .ok (.if_icmp .le 4, 3) := dk_164 0 4 (dk_at dksX2_times_1 19 rfl rfl)
theorem dX2_times_46 : decode cX2_times 46 = .ok (.return_, 1) := dk_177 (dk_at dksX2_times_1 22 rfl rfl)
theorem dX2_times_47 : decode cX2_times 47 = .ok (.aload_n 0, 1) := dk_42 (dk_at dksX2_times_1 23 rfl rfl)
theorem dX2_times_48 : decode cX2_times 48 = .ok (.ldc2_w 251, 3) := dk_20 0 251 (dk_at dksX2_times_2 0 rfl rfl)
theorem dX2_times_51 : decode cX2_times 51 = .ok (.invokevirtual 243, 3) := dk_182 0 243 (dk_at dksX2_times_2 3 rfl rfl)
theorem dX2_times_54 : decode cX2_times 54 = .ok (.aload_n 0, 1) := dk_42 (dk_at dksX2_times_2 6 rfl rfl)
theorem dX2_times_55 : decode cX2_times 55 = .ok (.iload_n 1, 1) := dk_27 (dk_at dksX2_times_2 7 rfl rfl)
theorem dX2_times_56 : decode cX2_times 56 = .ok (.iconst 1, 1) := dk_4 (dk_at dksX2_times_2 8 rfl rfl)
theorem dX2_times_57 : decode cX2_times 57 = .ok (.sipush 999, 3) := dk_17 3 231 (dk_at dksX2_times_2 9 rfl rfl)
theorem dX2_times_60 : decode cX2_times 60 = .ok (.invokevirtual 247, 3) := dk_182 0 247 (dk_at dksX2_times_2 12 rfl rfl)
theorem dX2_times_63 : decode cX2_times 63 = .ok (.aload_n 0, 1) := dk_42 (dk_at dksX2_times_2 15 rfl rfl)
theorem dX2_times_64 : decode cX2_times 64 = .ok (.ldc2_w 253, 3) := dk_20 0 253 (dk_at dksX2_times_2 16 rfl rfl)
theorem dX2_times_67 : decode cX2_times 67 = .ok (.invokevirtual 187, 3) := dk_182 0 187 (dk_at dksX2_times_2 19 rfl rfl)
theorem dX2_times_70 : decode cX2_times 70 = .ok (.ifCond .eq 16, 3) := dk_153 0 16 (dk_at dksX2_times_3 0 rfl rfl)
theorem dX2_times_73 : decode cX2_times 73 = .ok (.aload_n 0, 1) := dk_42 (dk_at dksX2_times_3 3 rfl rfl)
theorem dX2_times_74 : decode cX2_times 74 = .ok (.invokevirtual 191, 3) := dk_182 0 191 (dk_at dksX2_times_3 4 rfl rfl)
theorem dX2_times_77 : decode cX2_times 77 = .ok (.aload_n 0, 1) := dk_42 (dk_at dksX2_times_3 7 rfl rfl)
theorem dX2_times_78 : decode cX2_times 78 = .ok (.iload_n 1, 1) := dk_27 (dk_at dksX2_times_3 8 rfl rfl)
theorem dX2_times_79 : decode cX2_times 79 = .ok (.iconst 2, 1) := dk_5 (dk_at dksX2_times_3 9 rfl rfl)
theorem dX2_times_80 : decode cX2_times 80 = .ok (.sipush 999, 3) := dk_17 3 231 (dk_at dksX2_times_3 10 rfl rfl)
theorem dX2_times_83 : decode cX2_times 83 = .ok (.invokevirtual 247, 3) := dk_182 0 247 (dk_at dksX2_times_3 13 rfl rfl)
theorem dX2_times_86 : decode cX2_times 86 = .ok (.aload_n 0, 1) := dk_42 (dk_at dksX2_times_3 16 rfl rfl)
theorem dX2_times_87 : decode cX2_times 87 = .ok (.ldc2_w 255, 3) := dk_20 0 255 (dk_at dksX2_times_3 17 rfl rfl)
theorem dX2_times_90 : decode cX2_times 90 = .ok (.invokevirtual 187, 3) := dk_182 0 187 (dk_at dksX2_times_3 20 rfl rfl)
theorem dX2_times_93 : decode cX2_times 93 = .ok (.ifCond .eq 14, 3) := dk_153 0 14 (dk_at dksX2_times_4 0 rfl rfl)
theorem dX2_times_96 : decode cX2_times 96 = .ok (.aload_n 0, 1) := dk_42 (dk_at dksX2_times_4 3 rfl rfl)
theorem dX2_times_97 : decode cX2_times 97 = .ok (.invokevirtual 191, 3) := dk_182 0 191 (dk_at dksX2_times_4 4 rfl rfl)
theorem dX2_times_100 : decode cX2_times 100 = .ok (.aload_n 0, 1) := dk_42 (dk_at dksX2_times_4 7 rfl rfl)
theorem dX2_times_101 : decode cX2_times 101 = .ok (.getfield 43, 3) := dk_180 0 43 (dk_at dksX2_times_4 8 rfl rfl)
theorem dX2_times_104 : decode cX2_times 104 = .ok (.iload_n 1, 1) := dk_27 (dk_at dksX2_times_4 11 rfl rfl)
theorem dX2_times_105 : decode cX2_times 105 = .ok (.iconst 1, 1) := dk_4 (dk_at dksX2_times_4 12 rfl rfl)
theorem dX2_times_106 : decode cX2_times 106 = .ok (.iastore, 1) := dk_79 (dk_at dksX2_times_4 13 rfl rfl)
theorem dX2_times_107 : decode cX2_times 107 = .ok (.return_, 1) := dk_177 (dk_at dksX2_times_4 14 rfl rfl)
abbrev cX2_wayHere : ByteArray := prog_23_method_16_code
def yX2_wayHere : MethodName := ⟨RX2, "wayHere", "()I"⟩
def dkwX2_wayHere_2 : List UInt8 := [20, 0, 227, 148, 154, 0, 5, 5, 172, 42, 180, 0, 166, 20, 0, 219, 148, 154, 0, 5, 6, 172, 2, 172]
abbrev dktX2_wayHere_2 : List UInt8 := dkwX2_wayHere_2 ++ []
def dkwX2_wayHere_1 : List UInt8 := [148, 154, 0, 5, 3, 172, 42, 180, 0, 166, 20, 0, 225, 148, 154, 0, 5, 4, 172, 42, 180, 0, 166]
abbrev dktX2_wayHere_1 : List UInt8 := dkwX2_wayHere_1 ++ dktX2_wayHere_2
def dkwX2_wayHere_0 : List UInt8 := [42, 180, 0, 183, 154, 0, 11, 42, 180, 0, 173, 4, 159, 0, 5, 2, 172, 42, 180, 0, 166, 20, 0, 223]
abbrev dktX2_wayHere_0 : List UInt8 := dkwX2_wayHere_0 ++ dktX2_wayHere_1
theorem dksX2_wayHere_0 : cX2_wayHere.data.toList.drop 0 = dktX2_wayHere_0 := by decide +kernel
theorem dksX2_wayHere_1 : cX2_wayHere.data.toList.drop 24 = dktX2_wayHere_1 := dk_seg dksX2_wayHere_0 24 rfl rfl
theorem dksX2_wayHere_2 : cX2_wayHere.data.toList.drop 47 = dktX2_wayHere_2 := dk_seg dksX2_wayHere_1 23 rfl rfl
theorem dX2_wayHere_0 : decode cX2_wayHere 0 = .ok (.aload_n 0, 1) := dk_42 (dk_at dksX2_wayHere_0 0 rfl rfl)
theorem dX2_wayHere_1 : decode cX2_wayHere 1 = .ok (.getfield 183, 3) := dk_180 0 183 (dk_at dksX2_wayHere_0 1 rfl rfl)
theorem dX2_wayHere_4 : decode cX2_wayHere 4 = .ok (.ifCond .ne 11, 3) := dk_154 0 11 (dk_at dksX2_wayHere_0 4 rfl rfl)
theorem dX2_wayHere_7 : decode cX2_wayHere 7 = .ok (.aload_n 0, 1) := dk_42 (dk_at dksX2_wayHere_0 7 rfl rfl)
theorem dX2_wayHere_8 : decode cX2_wayHere 8 = .ok (.getfield 173, 3) := dk_180 0 173 (dk_at dksX2_wayHere_0 8 rfl rfl)
theorem dX2_wayHere_11 : decode cX2_wayHere 11 = .ok (.iconst 1, 1) := dk_4 (dk_at dksX2_wayHere_0 11 rfl rfl)
theorem dX2_wayHere_12 : decode cX2_wayHere 12 = .ok (.if_icmp .eq 5, 3) := dk_159 0 5 (dk_at dksX2_wayHere_0 12 rfl rfl)
theorem dX2_wayHere_15 : decode cX2_wayHere 15 = .ok (.iconst (-1), 1) := dk_2 (dk_at dksX2_wayHere_0 15 rfl rfl)
theorem dX2_wayHere_16 : decode cX2_wayHere 16 = .ok (.ireturn, 1) := dk_172 (dk_at dksX2_wayHere_0 16 rfl rfl)
theorem dX2_wayHere_17 : decode cX2_wayHere 17 = .ok (.aload_n 0, 1) := dk_42 (dk_at dksX2_wayHere_0 17 rfl rfl)
theorem dX2_wayHere_18 : decode cX2_wayHere 18 = .ok (.getfield 166, 3) := dk_180 0 166 (dk_at dksX2_wayHere_0 18 rfl rfl)
theorem dX2_wayHere_21 : decode cX2_wayHere 21 = .ok (.ldc2_w 223, 3) := dk_20 0 223 (dk_at dksX2_wayHere_0 21 rfl rfl)
theorem dX2_wayHere_24 : decode cX2_wayHere 24 = .ok (.lcmp, 1) := dk_148 (dk_at dksX2_wayHere_1 0 rfl rfl)
theorem dX2_wayHere_25 : decode cX2_wayHere 25 = .ok (.ifCond .ne 5, 3) := dk_154 0 5 (dk_at dksX2_wayHere_1 1 rfl rfl)
theorem dX2_wayHere_28 : decode cX2_wayHere 28 = .ok (.iconst 0, 1) := dk_3 (dk_at dksX2_wayHere_1 4 rfl rfl)
theorem dX2_wayHere_29 : decode cX2_wayHere 29 = .ok (.ireturn, 1) := dk_172 (dk_at dksX2_wayHere_1 5 rfl rfl)
theorem dX2_wayHere_30 : decode cX2_wayHere 30 = .ok (.aload_n 0, 1) := dk_42 (dk_at dksX2_wayHere_1 6 rfl rfl)
theorem dX2_wayHere_31 : decode cX2_wayHere 31 = .ok (.getfield 166, 3) := dk_180 0 166 (dk_at dksX2_wayHere_1 7 rfl rfl)
theorem dX2_wayHere_34 : decode cX2_wayHere 34 = .ok (.ldc2_w 225, 3) := dk_20 0 225 (dk_at dksX2_wayHere_1 10 rfl rfl)
theorem dX2_wayHere_37 : decode cX2_wayHere 37 = .ok (.lcmp, 1) := dk_148 (dk_at dksX2_wayHere_1 13 rfl rfl)
theorem dX2_wayHere_38 : decode cX2_wayHere 38 = .ok (.ifCond .ne 5, 3) := dk_154 0 5 (dk_at dksX2_wayHere_1 14 rfl rfl)
theorem dX2_wayHere_41 : decode cX2_wayHere 41 = .ok (.iconst 1, 1) := dk_4 (dk_at dksX2_wayHere_1 17 rfl rfl)
theorem dX2_wayHere_42 : decode cX2_wayHere 42 = .ok (.ireturn, 1) := dk_172 (dk_at dksX2_wayHere_1 18 rfl rfl)
theorem dX2_wayHere_43 : decode cX2_wayHere 43 = .ok (.aload_n 0, 1) := dk_42 (dk_at dksX2_wayHere_1 19 rfl rfl)
theorem dX2_wayHere_44 : decode cX2_wayHere 44 = .ok (.getfield 166, 3) := dk_180 0 166 (dk_at dksX2_wayHere_1 20 rfl rfl)
theorem dX2_wayHere_47 : decode cX2_wayHere 47 = .ok (.ldc2_w 227, 3) := dk_20 0 227 (dk_at dksX2_wayHere_2 0 rfl rfl)
theorem dX2_wayHere_50 : decode cX2_wayHere 50 = .ok (.lcmp, 1) := dk_148 (dk_at dksX2_wayHere_2 3 rfl rfl)
theorem dX2_wayHere_51 : decode cX2_wayHere 51 = .ok (.ifCond .ne 5, 3) := dk_154 0 5 (dk_at dksX2_wayHere_2 4 rfl rfl)
theorem dX2_wayHere_54 : decode cX2_wayHere 54 = .ok (.iconst 2, 1) := dk_5 (dk_at dksX2_wayHere_2 7 rfl rfl)
theorem dX2_wayHere_55 : decode cX2_wayHere 55 = .ok (.ireturn, 1) := dk_172 (dk_at dksX2_wayHere_2 8 rfl rfl)
theorem dX2_wayHere_56 : decode cX2_wayHere 56 = .ok (.aload_n 0, 1) := dk_42 (dk_at dksX2_wayHere_2 9 rfl rfl)
theorem dX2_wayHere_57 : decode cX2_wayHere 57 = .ok (.getfield 166, 3) := dk_180 0 166 (dk_at dksX2_wayHere_2 10 rfl rfl)
theorem dX2_wayHere_60 : decode cX2_wayHere 60 = .ok (.ldc2_w 219, 3) := dk_20 0 219 (dk_at dksX2_wayHere_2 13 rfl rfl)
theorem dX2_wayHere_63 : decode cX2_wayHere 63 = .ok (.lcmp, 1) := dk_148 (dk_at dksX2_wayHere_2 16 rfl rfl)
theorem dX2_wayHere_64 : decode cX2_wayHere 64 = .ok (.ifCond .ne 5, 3) := dk_154 0 5 (dk_at dksX2_wayHere_2 17 rfl rfl)
theorem dX2_wayHere_67 : decode cX2_wayHere 67 = .ok (.iconst 3, 1) := dk_6 (dk_at dksX2_wayHere_2 20 rfl rfl)
theorem dX2_wayHere_68 : decode cX2_wayHere 68 = .ok (.ireturn, 1) := dk_172 (dk_at dksX2_wayHere_2 21 rfl rfl)
theorem dX2_wayHere_69 : decode cX2_wayHere 69 = .ok (.iconst (-1), 1) := dk_2 (dk_at dksX2_wayHere_2 22 rfl rfl)
theorem dX2_wayHere_70 : decode cX2_wayHere 70 = .ok (.ireturn, 1) := dk_172 (dk_at dksX2_wayHere_2 23 rfl rfl)
abbrev cX2_mustBe : ByteArray := prog_23_method_9_code
def yX2_mustBe : MethodName := ⟨RX2, "mustBe", "(J)V"⟩
def dkwX2_mustBe_0 : List UInt8 := [42, 31, 182, 0, 187, 153, 0, 10, 42, 182, 0, 191, 167, 0, 7, 42, 182, 0, 194, 177]
abbrev dktX2_mustBe_0 : List UInt8 := dkwX2_mustBe_0 ++ []
theorem dksX2_mustBe_0 : cX2_mustBe.data.toList.drop 0 = dktX2_mustBe_0 := by decide +kernel
theorem dX2_mustBe_0 : decode cX2_mustBe 0 = .ok (.aload_n 0, 1) := dk_42 (dk_at dksX2_mustBe_0 0 rfl rfl)
theorem dX2_mustBe_1 : decode cX2_mustBe 1 = .ok (.lload_n 1, 1) := dk_31 (dk_at dksX2_mustBe_0 1 rfl rfl)
theorem dX2_mustBe_2 : decode cX2_mustBe 2 = .ok (.invokevirtual 187, 3) := dk_182 0 187 (dk_at dksX2_mustBe_0 2 rfl rfl)
theorem dX2_mustBe_5 : decode cX2_mustBe 5 = .ok (.ifCond .eq 10, 3) := dk_153 0 10 (dk_at dksX2_mustBe_0 5 rfl rfl)
theorem dX2_mustBe_8 : decode cX2_mustBe 8 = .ok (.aload_n 0, 1) := dk_42 (dk_at dksX2_mustBe_0 8 rfl rfl)
theorem dX2_mustBe_9 : decode cX2_mustBe 9 = .ok (.invokevirtual 191, 3) := dk_182 0 191 (dk_at dksX2_mustBe_0 9 rfl rfl)
theorem dX2_mustBe_12 : decode cX2_mustBe 12 = .ok (.goto 7, 3) := dk_167 0 7 (dk_at dksX2_mustBe_0 12 rfl rfl)
theorem dX2_mustBe_15 : decode cX2_mustBe 15 = .ok (.aload_n 0, 1) := dk_42 (dk_at dksX2_mustBe_0 15 rfl rfl)
theorem dX2_mustBe_16 : decode cX2_mustBe 16 = .ok (.invokevirtual 194, 3) := dk_182 0 194 (dk_at dksX2_mustBe_0 16 rfl rfl)
theorem dX2_mustBe_19 : decode cX2_mustBe 19 = .ok (.return_, 1) := dk_177 (dk_at dksX2_mustBe_0 19 rfl rfl)
abbrev cX2_span : ByteArray := prog_23_method_18_code
def yX2_span : MethodName := ⟨RX2, "span", "(III)V"⟩
def dkwX2_span_4 : List UInt8 := [167, 0, 4, 29, 182, 0, 232, 79, 177]
abbrev dktX2_span_4 : List UInt8 := dkwX2_span_4 ++ []
def dkwX2_span_3 : List UInt8 := [104, 28, 96, 42, 42, 180, 0, 49, 6, 27, 104, 28, 96, 46, 21, 4, 29, 162, 0, 8, 21, 4]
abbrev dktX2_span_3 : List UInt8 := dkwX2_span_3 ++ dktX2_span_4
def dkwX2_span_2 : List UInt8 := [182, 0, 191, 42, 180, 0, 49, 6, 27, 104, 28, 96, 46, 16, 15, 96, 54, 4, 42, 180, 0, 52, 6, 27]
abbrev dktX2_span_2 : List UInt8 := dkwX2_span_2 ++ dktX2_span_3
def dkwX2_span_1 : List UInt8 := [96, 42, 180, 0, 49, 6, 27, 104, 28, 96, 46, 79, 42, 20, 0, 236, 182, 0, 187, 154, 0, 4, 177, 42]
abbrev dktX2_span_1 : List UInt8 := dkwX2_span_1 ++ dktX2_span_2
def dkwX2_span_0 : List UInt8 := [42, 180, 0, 49, 6, 27, 104, 28, 96, 42, 3, 29, 182, 0, 232, 79, 42, 180, 0, 52, 6, 27, 104, 28]
abbrev dktX2_span_0 : List UInt8 := dkwX2_span_0 ++ dktX2_span_1
theorem dksX2_span_0 : cX2_span.data.toList.drop 0 = dktX2_span_0 := by decide +kernel
theorem dksX2_span_1 : cX2_span.data.toList.drop 24 = dktX2_span_1 := dk_seg dksX2_span_0 24 rfl rfl
theorem dksX2_span_2 : cX2_span.data.toList.drop 48 = dktX2_span_2 := dk_seg dksX2_span_1 24 rfl rfl
theorem dksX2_span_3 : cX2_span.data.toList.drop 72 = dktX2_span_3 := dk_seg dksX2_span_2 24 rfl rfl
theorem dksX2_span_4 : cX2_span.data.toList.drop 94 = dktX2_span_4 := dk_seg dksX2_span_3 22 rfl rfl
theorem dX2_span_0 : decode cX2_span 0 = .ok (.aload_n 0, 1) := dk_42 (dk_at dksX2_span_0 0 rfl rfl)
theorem dX2_span_1 : decode cX2_span 1 = .ok (.getfield 49, 3) := dk_180 0 49 (dk_at dksX2_span_0 1 rfl rfl)
theorem dX2_span_4 : decode cX2_span 4 = .ok (.iconst 3, 1) := dk_6 (dk_at dksX2_span_0 4 rfl rfl)
theorem dX2_span_5 : decode cX2_span 5 = .ok (.iload_n 1, 1) := dk_27 (dk_at dksX2_span_0 5 rfl rfl)
theorem dX2_span_6 : decode cX2_span 6 = .ok (.imul, 1) := dk_104 (dk_at dksX2_span_0 6 rfl rfl)
theorem dX2_span_7 : decode cX2_span 7 = .ok (.iload_n 2, 1) := dk_28 (dk_at dksX2_span_0 7 rfl rfl)
theorem dX2_span_8 : decode cX2_span 8 = .ok (.iadd, 1) := dk_96 (dk_at dksX2_span_0 8 rfl rfl)
theorem dX2_span_9 : decode cX2_span 9 = .ok (.aload_n 0, 1) := dk_42 (dk_at dksX2_span_0 9 rfl rfl)
theorem dX2_span_10 : decode cX2_span 10 = .ok (.iconst 0, 1) := dk_3 (dk_at dksX2_span_0 10 rfl rfl)
theorem dX2_span_11 : decode cX2_span 11 = .ok (.iload_n 3, 1) := dk_29 (dk_at dksX2_span_0 11 rfl rfl)
theorem dX2_span_12 : decode cX2_span 12 = .ok (.invokevirtual 232, 3) := dk_182 0 232 (dk_at dksX2_span_0 12 rfl rfl)
theorem dX2_span_15 : decode cX2_span 15 = .ok (.iastore, 1) := dk_79 (dk_at dksX2_span_0 15 rfl rfl)
theorem dX2_span_16 : decode cX2_span 16 = .ok (.aload_n 0, 1) := dk_42 (dk_at dksX2_span_0 16 rfl rfl)
theorem dX2_span_17 : decode cX2_span 17 = .ok (.getfield 52, 3) := dk_180 0 52 (dk_at dksX2_span_0 17 rfl rfl)
theorem dX2_span_20 : decode cX2_span 20 = .ok (.iconst 3, 1) := dk_6 (dk_at dksX2_span_0 20 rfl rfl)
theorem dX2_span_21 : decode cX2_span 21 = .ok (.iload_n 1, 1) := dk_27 (dk_at dksX2_span_0 21 rfl rfl)
theorem dX2_span_22 : decode cX2_span 22 = .ok (.imul, 1) := dk_104 (dk_at dksX2_span_0 22 rfl rfl)
theorem dX2_span_23 : decode cX2_span 23 = .ok (.iload_n 2, 1) := dk_28 (dk_at dksX2_span_0 23 rfl rfl)
theorem dX2_span_24 : decode cX2_span 24 = .ok (.iadd, 1) := dk_96 (dk_at dksX2_span_1 0 rfl rfl)
theorem dX2_span_25 : decode cX2_span 25 = .ok (.aload_n 0, 1) := dk_42 (dk_at dksX2_span_1 1 rfl rfl)
theorem dX2_span_26 : decode cX2_span 26 = .ok (.getfield 49, 3) := dk_180 0 49 (dk_at dksX2_span_1 2 rfl rfl)
theorem dX2_span_29 : decode cX2_span 29 = .ok (.iconst 3, 1) := dk_6 (dk_at dksX2_span_1 5 rfl rfl)
theorem dX2_span_30 : decode cX2_span 30 = .ok (.iload_n 1, 1) := dk_27 (dk_at dksX2_span_1 6 rfl rfl)
theorem dX2_span_31 : decode cX2_span 31 = .ok (.imul, 1) := dk_104 (dk_at dksX2_span_1 7 rfl rfl)
theorem dX2_span_32 : decode cX2_span 32 = .ok (.iload_n 2, 1) := dk_28 (dk_at dksX2_span_1 8 rfl rfl)
theorem dX2_span_33 : decode cX2_span 33 = .ok (.iadd, 1) := dk_96 (dk_at dksX2_span_1 9 rfl rfl)
theorem dX2_span_34 : decode cX2_span 34 = .ok (.iaload, 1) := dk_46 (dk_at dksX2_span_1 10 rfl rfl)
theorem dX2_span_35 : decode cX2_span 35 = .ok (.iastore, 1) := dk_79 (dk_at dksX2_span_1 11 rfl rfl)
theorem dX2_span_36 : decode cX2_span 36 = .ok (.aload_n 0, 1) := dk_42 (dk_at dksX2_span_1 12 rfl rfl)
theorem dX2_span_37 : decode cX2_span 37 = .ok (.ldc2_w 236, 3) := dk_20 0 236 (dk_at dksX2_span_1 13 rfl rfl)
theorem dX2_span_40 : decode cX2_span 40 = .ok (.invokevirtual 187, 3) := dk_182 0 187 (dk_at dksX2_span_1 16 rfl rfl)
theorem dX2_span_43 : decode cX2_span 43 = .ok (.ifCond .ne 4, 3) := dk_154 0 4 (dk_at dksX2_span_1 19 rfl rfl)
theorem dX2_span_46 : decode cX2_span 46 = .ok (.return_, 1) := dk_177 (dk_at dksX2_span_1 22 rfl rfl)
theorem dX2_span_47 : decode cX2_span 47 = .ok (.aload_n 0, 1) := dk_42 (dk_at dksX2_span_1 23 rfl rfl)
theorem dX2_span_48 : decode cX2_span 48 = .ok (.invokevirtual 191, 3) := dk_182 0 191 (dk_at dksX2_span_2 0 rfl rfl)
theorem dX2_span_51 : decode cX2_span 51 = .ok (.aload_n 0, 1) := dk_42 (dk_at dksX2_span_2 3 rfl rfl)
theorem dX2_span_52 : decode cX2_span 52 = .ok (.getfield 49, 3) := dk_180 0 49 (dk_at dksX2_span_2 4 rfl rfl)
theorem dX2_span_55 : decode cX2_span 55 = .ok (.iconst 3, 1) := dk_6 (dk_at dksX2_span_2 7 rfl rfl)
theorem dX2_span_56 : decode cX2_span 56 = .ok (.iload_n 1, 1) := dk_27 (dk_at dksX2_span_2 8 rfl rfl)
theorem dX2_span_57 : decode cX2_span 57 = .ok (.imul, 1) := dk_104 (dk_at dksX2_span_2 9 rfl rfl)
theorem dX2_span_58 : decode cX2_span 58 = .ok (.iload_n 2, 1) := dk_28 (dk_at dksX2_span_2 10 rfl rfl)
theorem dX2_span_59 : decode cX2_span 59 = .ok (.iadd, 1) := dk_96 (dk_at dksX2_span_2 11 rfl rfl)
theorem dX2_span_60 : decode cX2_span 60 = .ok (.iaload, 1) := dk_46 (dk_at dksX2_span_2 12 rfl rfl)
theorem dX2_span_61 : decode cX2_span 61 = .ok (.bipush 15, 2) := dk_16 15 (dk_at dksX2_span_2 13 rfl rfl)
theorem dX2_span_63 : decode cX2_span 63 = .ok (.iadd, 1) := dk_96 (dk_at dksX2_span_2 15 rfl rfl)
theorem dX2_span_64 : decode cX2_span 64 = .ok (.istore 4, 2) := dk_54 4 (dk_at dksX2_span_2 16 rfl rfl)
theorem dX2_span_66 : decode cX2_span 66 = .ok (.aload_n 0, 1) := dk_42 (dk_at dksX2_span_2 18 rfl rfl)
theorem dX2_span_67 : decode cX2_span 67 = .ok (.getfield 52, 3) := dk_180 0 52 (dk_at dksX2_span_2 19 rfl rfl)
theorem dX2_span_70 : decode cX2_span 70 = .ok (.iconst 3, 1) := dk_6 (dk_at dksX2_span_2 22 rfl rfl)
theorem dX2_span_71 : decode cX2_span 71 = .ok (.iload_n 1, 1) := dk_27 (dk_at dksX2_span_2 23 rfl rfl)
theorem dX2_span_72 : decode cX2_span 72 = .ok (.imul, 1) := dk_104 (dk_at dksX2_span_3 0 rfl rfl)
theorem dX2_span_73 : decode cX2_span 73 = .ok (.iload_n 2, 1) := dk_28 (dk_at dksX2_span_3 1 rfl rfl)
theorem dX2_span_74 : decode cX2_span 74 = .ok (.iadd, 1) := dk_96 (dk_at dksX2_span_3 2 rfl rfl)
theorem dX2_span_75 : decode cX2_span 75 = .ok (.aload_n 0, 1) := dk_42 (dk_at dksX2_span_3 3 rfl rfl)
theorem dX2_span_76 : decode cX2_span 76 = .ok (.aload_n 0, 1) := dk_42 (dk_at dksX2_span_3 4 rfl rfl)
theorem dX2_span_77 : decode cX2_span 77 = .ok (.getfield 49, 3) := dk_180 0 49 (dk_at dksX2_span_3 5 rfl rfl)
theorem dX2_span_80 : decode cX2_span 80 = .ok (.iconst 3, 1) := dk_6 (dk_at dksX2_span_3 8 rfl rfl)
theorem dX2_span_81 : decode cX2_span 81 = .ok (.iload_n 1, 1) := dk_27 (dk_at dksX2_span_3 9 rfl rfl)
theorem dX2_span_82 : decode cX2_span 82 = .ok (.imul, 1) := dk_104 (dk_at dksX2_span_3 10 rfl rfl)
theorem dX2_span_83 : decode cX2_span 83 = .ok (.iload_n 2, 1) := dk_28 (dk_at dksX2_span_3 11 rfl rfl)
theorem dX2_span_84 : decode cX2_span 84 = .ok (.iadd, 1) := dk_96 (dk_at dksX2_span_3 12 rfl rfl)
theorem dX2_span_85 : decode cX2_span 85 = .ok (.iaload, 1) := dk_46 (dk_at dksX2_span_3 13 rfl rfl)
theorem dX2_span_86 : decode cX2_span 86 = .ok (.iload 4, 2) := dk_21 4 (dk_at dksX2_span_3 14 rfl rfl)
theorem dX2_span_88 : decode cX2_span 88 = .ok (.iload_n 3, 1) := dk_29 (dk_at dksX2_span_3 16 rfl rfl)
theorem dX2_span_89 : decode cX2_span 89 = .ok (.if_icmp .ge 8, 3) := dk_162 0 8 (dk_at dksX2_span_3 17 rfl rfl)
theorem dX2_span_92 : decode cX2_span 92 = .ok (.iload 4, 2) := dk_21 4 (dk_at dksX2_span_3 20 rfl rfl)
theorem dX2_span_94 : decode cX2_span 94 = .ok (.goto 4, 3) := dk_167 0 4 (dk_at dksX2_span_4 0 rfl rfl)
theorem dX2_span_97 : decode cX2_span 97 = .ok (.iload_n 3, 1) := dk_29 (dk_at dksX2_span_4 3 rfl rfl)
theorem dX2_span_98 : decode cX2_span 98 = .ok (.invokevirtual 232, 3) := dk_182 0 232 (dk_at dksX2_span_4 4 rfl rfl)
theorem dX2_span_101 : decode cX2_span 101 = .ok (.iastore, 1) := dk_79 (dk_at dksX2_span_4 7 rfl rfl)
theorem dX2_span_102 : decode cX2_span 102 = .ok (.return_, 1) := dk_177 (dk_at dksX2_span_4 8 rfl rfl)
abbrev cX2_ends : ByteArray := prog_23_method_11_code
def yX2_ends : MethodName := ⟨RX2, "ends", "()V"⟩
def dkwX2_ends_1 : List UInt8 := [42, 182, 0, 194, 177]
abbrev dktX2_ends_1 : List UInt8 := dkwX2_ends_1 ++ []
def dkwX2_ends_0 : List UInt8 := [42, 180, 0, 183, 153, 0, 4, 177, 42, 180, 0, 173, 16, 59, 160, 0, 10, 42, 182, 0, 191, 167, 0, 7]
abbrev dktX2_ends_0 : List UInt8 := dkwX2_ends_0 ++ dktX2_ends_1
theorem dksX2_ends_0 : cX2_ends.data.toList.drop 0 = dktX2_ends_0 := by decide +kernel
theorem dksX2_ends_1 : cX2_ends.data.toList.drop 24 = dktX2_ends_1 := dk_seg dksX2_ends_0 24 rfl rfl
theorem dX2_ends_0 : decode cX2_ends 0 = .ok (.aload_n 0, 1) := dk_42 (dk_at dksX2_ends_0 0 rfl rfl)
theorem dX2_ends_1 : decode cX2_ends 1 = .ok (.getfield 183, 3) := dk_180 0 183 (dk_at dksX2_ends_0 1 rfl rfl)
theorem dX2_ends_4 : decode cX2_ends 4 = .ok (.ifCond .eq 4, 3) := dk_153 0 4 (dk_at dksX2_ends_0 4 rfl rfl)
theorem dX2_ends_7 : decode cX2_ends 7 = .ok (.return_, 1) := dk_177 (dk_at dksX2_ends_0 7 rfl rfl)
theorem dX2_ends_8 : decode cX2_ends 8 = .ok (.aload_n 0, 1) := dk_42 (dk_at dksX2_ends_0 8 rfl rfl)
theorem dX2_ends_9 : decode cX2_ends 9 = .ok (.getfield 173, 3) := dk_180 0 173 (dk_at dksX2_ends_0 9 rfl rfl)
theorem dX2_ends_12 : decode cX2_ends 12 = .ok (.bipush 59, 2) := dk_16 59 (dk_at dksX2_ends_0 12 rfl rfl)
theorem dX2_ends_14 : decode cX2_ends 14 = .ok (.if_icmp .ne 10, 3) := dk_160 0 10 (dk_at dksX2_ends_0 14 rfl rfl)
theorem dX2_ends_17 : decode cX2_ends 17 = .ok (.aload_n 0, 1) := dk_42 (dk_at dksX2_ends_0 17 rfl rfl)
theorem dX2_ends_18 : decode cX2_ends 18 = .ok (.invokevirtual 191, 3) := dk_182 0 191 (dk_at dksX2_ends_0 18 rfl rfl)
theorem dX2_ends_21 : decode cX2_ends 21 = .ok (.goto 7, 3) := dk_167 0 7 (dk_at dksX2_ends_0 21 rfl rfl)
theorem dX2_ends_24 : decode cX2_ends 24 = .ok (.aload_n 0, 1) := dk_42 (dk_at dksX2_ends_1 0 rfl rfl)
theorem dX2_ends_25 : decode cX2_ends 25 = .ok (.invokevirtual 194, 3) := dk_182 0 194 (dk_at dksX2_ends_1 1 rfl rfl)
theorem dX2_ends_28 : decode cX2_ends 28 = .ok (.return_, 1) := dk_177 (dk_at dksX2_ends_1 4 rfl rfl)
abbrev cX2_more : ByteArray := prog_23_method_27_code
def yX2_more : MethodName := ⟨RX2, "more", "(II)I"⟩
def dkwX2_more_2 : List UInt8 := [180, 0, 19, 27, 29, 79, 29, 172]
abbrev dktX2_more_2 : List UInt8 := dkwX2_more_2 ++ []
def dkwX2_more_1 : List UInt8 := [28, 182, 1, 37, 42, 27, 42, 180, 0, 19, 27, 46, 182, 1, 40, 62, 29, 156, 0, 5, 2, 172, 42]
abbrev dktX2_more_1 : List UInt8 := dkwX2_more_1 ++ dktX2_more_2
def dkwX2_more_0 : List UInt8 := [42, 27, 182, 1, 43, 153, 0, 15, 28, 155, 0, 11, 28, 42, 180, 0, 148, 164, 0, 6, 16, 254, 172, 42]
abbrev dktX2_more_0 : List UInt8 := dkwX2_more_0 ++ dktX2_more_1
theorem dksX2_more_0 : cX2_more.data.toList.drop 0 = dktX2_more_0 := by decide +kernel
theorem dksX2_more_1 : cX2_more.data.toList.drop 24 = dktX2_more_1 := dk_seg dksX2_more_0 24 rfl rfl
theorem dksX2_more_2 : cX2_more.data.toList.drop 47 = dktX2_more_2 := dk_seg dksX2_more_1 23 rfl rfl
theorem dX2_more_0 : decode cX2_more 0 = .ok (.aload_n 0, 1) := dk_42 (dk_at dksX2_more_0 0 rfl rfl)
theorem dX2_more_1 : decode cX2_more 1 = .ok (.iload_n 1, 1) := dk_27 (dk_at dksX2_more_0 1 rfl rfl)
theorem dX2_more_2 : decode cX2_more 2 = .ok (.invokevirtual 299, 3) := dk_182 1 43 (dk_at dksX2_more_0 2 rfl rfl)
theorem dX2_more_5 : decode cX2_more 5 = .ok (.ifCond .eq 15, 3) := dk_153 0 15 (dk_at dksX2_more_0 5 rfl rfl)
theorem dX2_more_8 : decode cX2_more 8 = .ok (.iload_n 2, 1) := dk_28 (dk_at dksX2_more_0 8 rfl rfl)
theorem dX2_more_9 : decode cX2_more 9 = .ok (.ifCond .lt 11, 3) := dk_155 0 11 (dk_at dksX2_more_0 9 rfl rfl)
theorem dX2_more_12 : decode cX2_more 12 = .ok (.iload_n 2, 1) := dk_28 (dk_at dksX2_more_0 12 rfl rfl)
theorem dX2_more_13 : decode cX2_more 13 = .ok (.aload_n 0, 1) := dk_42 (dk_at dksX2_more_0 13 rfl rfl)
theorem dX2_more_14 : decode cX2_more 14 = .ok (.getfield 148, 3) := dk_180 0 148 (dk_at dksX2_more_0 14 rfl rfl)
theorem dX2_more_17 : decode cX2_more 17 = .ok (.if_icmp .le 6, 3) := dk_164 0 6 (dk_at dksX2_more_0 17 rfl rfl)
theorem dX2_more_20 : decode cX2_more 20 = .ok (.bipush (-2), 2) := dk_16 254 (dk_at dksX2_more_0 20 rfl rfl)
theorem dX2_more_22 : decode cX2_more 22 = .ok (.ireturn, 1) := dk_172 (dk_at dksX2_more_0 22 rfl rfl)
theorem dX2_more_23 : decode cX2_more 23 = .ok (.aload_n 0, 1) := dk_42 (dk_at dksX2_more_0 23 rfl rfl)
theorem dX2_more_24 : decode cX2_more 24 = .ok (.iload_n 2, 1) := dk_28 (dk_at dksX2_more_1 0 rfl rfl)
theorem dX2_more_25 : decode cX2_more 25 = .ok (.invokevirtual 293, 3) := dk_182 1 37 (dk_at dksX2_more_1 1 rfl rfl)
theorem dX2_more_28 : decode cX2_more 28 = .ok (.aload_n 0, 1) := dk_42 (dk_at dksX2_more_1 4 rfl rfl)
theorem dX2_more_29 : decode cX2_more 29 = .ok (.iload_n 1, 1) := dk_27 (dk_at dksX2_more_1 5 rfl rfl)
theorem dX2_more_30 : decode cX2_more 30 = .ok (.aload_n 0, 1) := dk_42 (dk_at dksX2_more_1 6 rfl rfl)
theorem dX2_more_31 : decode cX2_more 31 = .ok (.getfield 19, 3) := dk_180 0 19 (dk_at dksX2_more_1 7 rfl rfl)
theorem dX2_more_34 : decode cX2_more 34 = .ok (.iload_n 1, 1) := dk_27 (dk_at dksX2_more_1 10 rfl rfl)
theorem dX2_more_35 : decode cX2_more 35 = .ok (.iaload, 1) := dk_46 (dk_at dksX2_more_1 11 rfl rfl)
theorem dX2_more_36 : decode cX2_more 36 = .ok (.invokevirtual 296, 3) := dk_182 1 40 (dk_at dksX2_more_1 12 rfl rfl)
theorem dX2_more_39 : decode cX2_more 39 = .ok (.istore_n 3, 1) := dk_62 (dk_at dksX2_more_1 15 rfl rfl)
theorem dX2_more_40 : decode cX2_more 40 = .ok (.iload_n 3, 1) := dk_29 (dk_at dksX2_more_1 16 rfl rfl)
theorem dX2_more_41 : decode cX2_more 41 = .ok (.ifCond .ge 5, 3) := dk_156 0 5 (dk_at dksX2_more_1 17 rfl rfl)
theorem dX2_more_44 : decode cX2_more 44 = .ok (.iconst (-1), 1) := dk_2 (dk_at dksX2_more_1 20 rfl rfl)
theorem dX2_more_45 : decode cX2_more 45 = .ok (.ireturn, 1) := dk_172 (dk_at dksX2_more_1 21 rfl rfl)
theorem dX2_more_46 : decode cX2_more 46 = .ok (.aload_n 0, 1) := dk_42 (dk_at dksX2_more_1 22 rfl rfl)
theorem dX2_more_47 : decode cX2_more 47 = .ok (.getfield 19, 3) := dk_180 0 19 (dk_at dksX2_more_2 0 rfl rfl)
theorem dX2_more_50 : decode cX2_more 50 = .ok (.iload_n 1, 1) := dk_27 (dk_at dksX2_more_2 3 rfl rfl)
theorem dX2_more_51 : decode cX2_more 51 = .ok (.iload_n 3, 1) := dk_29 (dk_at dksX2_more_2 4 rfl rfl)
theorem dX2_more_52 : decode cX2_more 52 = .ok (.iastore, 1) := dk_79 (dk_at dksX2_more_2 5 rfl rfl)
theorem dX2_more_53 : decode cX2_more 53 = .ok (.iload_n 3, 1) := dk_29 (dk_at dksX2_more_2 6 rfl rfl)
theorem dX2_more_54 : decode cX2_more 54 = .ok (.ireturn, 1) := dk_172 (dk_at dksX2_more_2 7 rfl rfl)
abbrev cX2_isCase : ByteArray := prog_23_method_25_code
def yX2_isCase : MethodName := ⟨RX2, "isCase", "(I)Z"⟩
def dkwX2_isCase_0 : List UInt8 := [27, 155, 0, 17, 27, 42, 180, 0, 7, 3, 46, 162, 0, 7, 4, 167, 0, 4, 3, 172]
abbrev dktX2_isCase_0 : List UInt8 := dkwX2_isCase_0 ++ []
theorem dksX2_isCase_0 : cX2_isCase.data.toList.drop 0 = dktX2_isCase_0 := by decide +kernel
theorem dX2_isCase_0 : decode cX2_isCase 0 = .ok (.iload_n 1, 1) := dk_27 (dk_at dksX2_isCase_0 0 rfl rfl)
theorem dX2_isCase_1 : decode cX2_isCase 1 = .ok (.ifCond .lt 17, 3) := dk_155 0 17 (dk_at dksX2_isCase_0 1 rfl rfl)
theorem dX2_isCase_4 : decode cX2_isCase 4 = .ok (.iload_n 1, 1) := dk_27 (dk_at dksX2_isCase_0 4 rfl rfl)
theorem dX2_isCase_5 : decode cX2_isCase 5 = .ok (.aload_n 0, 1) := dk_42 (dk_at dksX2_isCase_0 5 rfl rfl)
theorem dX2_isCase_6 : decode cX2_isCase 6 = .ok (.getfield 7, 3) := dk_180 0 7 (dk_at dksX2_isCase_0 6 rfl rfl)
theorem dX2_isCase_9 : decode cX2_isCase 9 = .ok (.iconst 0, 1) := dk_3 (dk_at dksX2_isCase_0 9 rfl rfl)
theorem dX2_isCase_10 : decode cX2_isCase 10 = .ok (.iaload, 1) := dk_46 (dk_at dksX2_isCase_0 10 rfl rfl)
theorem dX2_isCase_11 : decode cX2_isCase 11 = .ok (.if_icmp .ge 7, 3) := dk_162 0 7 (dk_at dksX2_isCase_0 11 rfl rfl)
theorem dX2_isCase_14 : decode cX2_isCase 14 = .ok (.iconst 1, 1) := dk_4 (dk_at dksX2_isCase_0 14 rfl rfl)
theorem dX2_isCase_15 : decode cX2_isCase 15 = .ok (.goto 4, 3) := dk_167 0 4 (dk_at dksX2_isCase_0 15 rfl rfl)
theorem dX2_isCase_18 : decode cX2_isCase 18 = .ok (.iconst 0, 1) := dk_3 (dk_at dksX2_isCase_0 18 rfl rfl)
theorem dX2_isCase_19 : decode cX2_isCase 19 = .ok (.ireturn, 1) := dk_172 (dk_at dksX2_isCase_0 19 rfl rfl)
abbrev cX2_law : ByteArray := prog_23_method_32_code
def yX2_law : MethodName := ⟨RX2, "law", "(I)I"⟩
def dkwX2_law_2 : List UInt8 := [154, 0, 5, 2, 172, 42, 180, 0, 13, 3, 92, 46, 4, 96, 79, 42, 180, 0, 13, 3, 46, 4, 100, 172]
abbrev dktX2_law_2 : List UInt8 := dkwX2_law_2 ++ []
def dkwX2_law_1 : List UInt8 := [160, 0, 6, 16, 253, 172, 42, 27, 182, 1, 37, 42, 16, 14, 42, 180, 0, 13, 3, 46, 104, 182, 1, 86]
abbrev dktX2_law_1 : List UInt8 := dkwX2_law_1 ++ dktX2_law_2
def dkwX2_law_0 : List UInt8 := [27, 155, 0, 11, 27, 42, 180, 0, 148, 164, 0, 6, 16, 254, 172, 42, 180, 0, 13, 3, 46, 16, 8]
abbrev dktX2_law_0 : List UInt8 := dkwX2_law_0 ++ dktX2_law_1
theorem dksX2_law_0 : cX2_law.data.toList.drop 0 = dktX2_law_0 := by decide +kernel
theorem dksX2_law_1 : cX2_law.data.toList.drop 23 = dktX2_law_1 := dk_seg dksX2_law_0 23 rfl rfl
theorem dksX2_law_2 : cX2_law.data.toList.drop 47 = dktX2_law_2 := dk_seg dksX2_law_1 24 rfl rfl
theorem dX2_law_0 : decode cX2_law 0 = .ok (.iload_n 1, 1) := dk_27 (dk_at dksX2_law_0 0 rfl rfl)
theorem dX2_law_1 : decode cX2_law 1 = .ok (.ifCond .lt 11, 3) := dk_155 0 11 (dk_at dksX2_law_0 1 rfl rfl)
theorem dX2_law_4 : decode cX2_law 4 = .ok (.iload_n 1, 1) := dk_27 (dk_at dksX2_law_0 4 rfl rfl)
theorem dX2_law_5 : decode cX2_law 5 = .ok (.aload_n 0, 1) := dk_42 (dk_at dksX2_law_0 5 rfl rfl)
theorem dX2_law_6 : decode cX2_law 6 = .ok (.getfield 148, 3) := dk_180 0 148 (dk_at dksX2_law_0 6 rfl rfl)
theorem dX2_law_9 : decode cX2_law 9 = .ok (.if_icmp .le 6, 3) := dk_164 0 6 (dk_at dksX2_law_0 9 rfl rfl)
theorem dX2_law_12 : decode cX2_law 12 = .ok (.bipush (-2), 2) := dk_16 254 (dk_at dksX2_law_0 12 rfl rfl)
theorem dX2_law_14 : decode cX2_law 14 = .ok (.ireturn, 1) := dk_172 (dk_at dksX2_law_0 14 rfl rfl)
theorem dX2_law_15 : decode cX2_law 15 = .ok (.aload_n 0, 1) := dk_42 (dk_at dksX2_law_0 15 rfl rfl)
theorem dX2_law_16 : decode cX2_law 16 = .ok (.getfield 13, 3) := dk_180 0 13 (dk_at dksX2_law_0 16 rfl rfl)
theorem dX2_law_19 : decode cX2_law 19 = .ok (.iconst 0, 1) := dk_3 (dk_at dksX2_law_0 19 rfl rfl)
theorem dX2_law_20 : decode cX2_law 20 = .ok (.iaload, 1) := dk_46 (dk_at dksX2_law_0 20 rfl rfl)
theorem dX2_law_21 : decode cX2_law 21 = .ok (.bipush 8, 2) := dk_16 8 (dk_at dksX2_law_0 21 rfl rfl)
theorem dX2_law_23 : decode cX2_law 23 = .ok (.if_icmp .ne 6, 3) := dk_160 0 6 (dk_at dksX2_law_1 0 rfl rfl)
theorem dX2_law_26 : decode cX2_law 26 = .ok (.bipush (-3), 2) := dk_16 253 (dk_at dksX2_law_1 3 rfl rfl)
theorem dX2_law_28 : decode cX2_law 28 = .ok (.ireturn, 1) := dk_172 (dk_at dksX2_law_1 5 rfl rfl)
theorem dX2_law_29 : decode cX2_law 29 = .ok (.aload_n 0, 1) := dk_42 (dk_at dksX2_law_1 6 rfl rfl)
theorem dX2_law_30 : decode cX2_law 30 = .ok (.iload_n 1, 1) := dk_27 (dk_at dksX2_law_1 7 rfl rfl)
theorem dX2_law_31 : decode cX2_law 31 = .ok (.invokevirtual 293, 3) := dk_182 1 37 (dk_at dksX2_law_1 8 rfl rfl)
theorem dX2_law_34 : decode cX2_law 34 = .ok (.aload_n 0, 1) := dk_42 (dk_at dksX2_law_1 11 rfl rfl)
theorem dX2_law_35 : decode cX2_law 35 = .ok (.bipush 14, 2) := dk_16 14 (dk_at dksX2_law_1 12 rfl rfl)
theorem dX2_law_37 : decode cX2_law 37 = .ok (.aload_n 0, 1) := dk_42 (dk_at dksX2_law_1 14 rfl rfl)
theorem dX2_law_38 : decode cX2_law 38 = .ok (.getfield 13, 3) := dk_180 0 13 (dk_at dksX2_law_1 15 rfl rfl)
theorem dX2_law_41 : decode cX2_law 41 = .ok (.iconst 0, 1) := dk_3 (dk_at dksX2_law_1 18 rfl rfl)
theorem dX2_law_42 : decode cX2_law 42 = .ok (.iaload, 1) := dk_46 (dk_at dksX2_law_1 19 rfl rfl)
theorem dX2_law_43 : decode cX2_law 43 = .ok (.imul, 1) := dk_104 (dk_at dksX2_law_1 20 rfl rfl)
theorem dX2_law_44 : decode cX2_law 44 = .ok (.invokevirtual 342, 3) := dk_182 1 86 (dk_at dksX2_law_1 21 rfl rfl)
theorem dX2_law_47 : decode cX2_law 47 = .ok (.ifCond .ne 5, 3) := dk_154 0 5 (dk_at dksX2_law_2 0 rfl rfl)
theorem dX2_law_50 : decode cX2_law 50 = .ok (.iconst (-1), 1) := dk_2 (dk_at dksX2_law_2 3 rfl rfl)
theorem dX2_law_51 : decode cX2_law 51 = .ok (.ireturn, 1) := dk_172 (dk_at dksX2_law_2 4 rfl rfl)
theorem dX2_law_52 : decode cX2_law 52 = .ok (.aload_n 0, 1) := dk_42 (dk_at dksX2_law_2 5 rfl rfl)
theorem dX2_law_53 : decode cX2_law 53 = .ok (.getfield 13, 3) := dk_180 0 13 (dk_at dksX2_law_2 6 rfl rfl)
theorem dX2_law_56 : decode cX2_law 56 = .ok (.iconst 0, 1) := dk_3 (dk_at dksX2_law_2 9 rfl rfl)
theorem dX2_law_57 : decode cX2_law 57 = .ok (.dup2, 1) := dk_92 (dk_at dksX2_law_2 10 rfl rfl)
theorem dX2_law_58 : decode cX2_law 58 = .ok (.iaload, 1) := dk_46 (dk_at dksX2_law_2 11 rfl rfl)
theorem dX2_law_59 : decode cX2_law 59 = .ok (.iconst 1, 1) := dk_4 (dk_at dksX2_law_2 12 rfl rfl)
theorem dX2_law_60 : decode cX2_law 60 = .ok (.iadd, 1) := dk_96 (dk_at dksX2_law_2 13 rfl rfl)
theorem dX2_law_61 : decode cX2_law 61 = .ok (.iastore, 1) := dk_79 (dk_at dksX2_law_2 14 rfl rfl)
theorem dX2_law_62 : decode cX2_law 62 = .ok (.aload_n 0, 1) := dk_42 (dk_at dksX2_law_2 15 rfl rfl)
theorem dX2_law_63 : decode cX2_law 63 = .ok (.getfield 13, 3) := dk_180 0 13 (dk_at dksX2_law_2 16 rfl rfl)
theorem dX2_law_66 : decode cX2_law 66 = .ok (.iconst 0, 1) := dk_3 (dk_at dksX2_law_2 19 rfl rfl)
theorem dX2_law_67 : decode cX2_law 67 = .ok (.iaload, 1) := dk_46 (dk_at dksX2_law_2 20 rfl rfl)
theorem dX2_law_68 : decode cX2_law 68 = .ok (.iconst 1, 1) := dk_4 (dk_at dksX2_law_2 21 rfl rfl)
theorem dX2_law_69 : decode cX2_law 69 = .ok (.isub, 1) := dk_100 (dk_at dksX2_law_2 22 rfl rfl)
theorem dX2_law_70 : decode cX2_law 70 = .ok (.ireturn, 1) := dk_172 (dk_at dksX2_law_2 23 rfl rfl)
abbrev cX2_readRules : ByteArray := prog_23_method_31_code
def yX2_readRules : MethodName := ⟨RX2, "readRules", "(I)Z"⟩
def dkwX2_readRules_3 : List UInt8 := [96, 28, 79, 42, 180, 0, 183, 154, 0, 7, 4, 167, 0, 4, 3, 172]
abbrev dktX2_readRules_3 : List UInt8 := dkwX2_readRules_3 ++ []
def dkwX2_readRules_2 : List UInt8 := [182, 0, 194, 167, 0, 8, 42, 27, 182, 1, 83, 132, 2, 1, 167, 255, 221, 42, 180, 0, 55, 27, 16, 13]
abbrev dktX2_readRules_2 : List UInt8 := dkwX2_readRules_2 ++ dktX2_readRules_3
def dkwX2_readRules_1 : List UInt8 := [3, 61, 42, 180, 0, 173, 153, 0, 34, 42, 180, 0, 183, 154, 0, 27, 28, 16, 20, 160, 0, 10, 42]
abbrev dktX2_readRules_1 : List UInt8 := dkwX2_readRules_1 ++ dktX2_readRules_2
def dkwX2_readRules_0 : List UInt8 := [3, 61, 28, 16, 13, 162, 0, 19, 42, 180, 0, 55, 27, 28, 96, 16, 254, 79, 132, 2, 1, 167, 255, 237]
abbrev dktX2_readRules_0 : List UInt8 := dkwX2_readRules_0 ++ dktX2_readRules_1
theorem dksX2_readRules_0 : cX2_readRules.data.toList.drop 0 = dktX2_readRules_0 := by decide +kernel
theorem dksX2_readRules_1 : cX2_readRules.data.toList.drop 24 = dktX2_readRules_1 := dk_seg dksX2_readRules_0 24 rfl rfl
theorem dksX2_readRules_2 : cX2_readRules.data.toList.drop 47 = dktX2_readRules_2 := dk_seg dksX2_readRules_1 23 rfl rfl
theorem dksX2_readRules_3 : cX2_readRules.data.toList.drop 71 = dktX2_readRules_3 := dk_seg dksX2_readRules_2 24 rfl rfl
theorem dX2_readRules_0 : decode cX2_readRules 0 = .ok (.iconst 0, 1) := dk_3 (dk_at dksX2_readRules_0 0 rfl rfl)
theorem dX2_readRules_1 : decode cX2_readRules 1 = .ok (.istore_n 2, 1) := dk_61 (dk_at dksX2_readRules_0 1 rfl rfl)
theorem dX2_readRules_2 : decode cX2_readRules 2 = .ok (.iload_n 2, 1) := dk_28 (dk_at dksX2_readRules_0 2 rfl rfl)
theorem dX2_readRules_3 : decode cX2_readRules 3 = .ok (.bipush 13, 2) := dk_16 13 (dk_at dksX2_readRules_0 3 rfl rfl)
theorem dX2_readRules_5 : decode cX2_readRules 5 = .ok (.if_icmp .ge 19, 3) := dk_162 0 19 (dk_at dksX2_readRules_0 5 rfl rfl)
theorem dX2_readRules_8 : decode cX2_readRules 8 = .ok (.aload_n 0, 1) := dk_42 (dk_at dksX2_readRules_0 8 rfl rfl)
theorem dX2_readRules_9 : decode cX2_readRules 9 = .ok (.getfield 55, 3) := dk_180 0 55 (dk_at dksX2_readRules_0 9 rfl rfl)
theorem dX2_readRules_12 : decode cX2_readRules 12 = .ok (.iload_n 1, 1) := dk_27 (dk_at dksX2_readRules_0 12 rfl rfl)
theorem dX2_readRules_13 : decode cX2_readRules 13 = .ok (.iload_n 2, 1) := dk_28 (dk_at dksX2_readRules_0 13 rfl rfl)
theorem dX2_readRules_14 : decode cX2_readRules 14 = .ok (.iadd, 1) := dk_96 (dk_at dksX2_readRules_0 14 rfl rfl)
theorem dX2_readRules_15 : decode cX2_readRules 15 = .ok (.bipush (-2), 2) := dk_16 254 (dk_at dksX2_readRules_0 15 rfl rfl)
theorem dX2_readRules_17 : decode cX2_readRules 17 = .ok (.iastore, 1) := dk_79 (dk_at dksX2_readRules_0 17 rfl rfl)
theorem dX2_readRules_18 : decode cX2_readRules 18 = .ok (.iinc 2 1, 3) := dk_132 2 1 (dk_at dksX2_readRules_0 18 rfl rfl)
theorem dX2_readRules_21 : decode cX2_readRules 21 = .ok (.goto (-19), 3) := dk_167 255 237 (dk_at dksX2_readRules_0 21 rfl rfl)
theorem dX2_readRules_24 : decode cX2_readRules 24 = .ok (.iconst 0, 1) := dk_3 (dk_at dksX2_readRules_1 0 rfl rfl)
theorem dX2_readRules_25 : decode cX2_readRules 25 = .ok (.istore_n 2, 1) := dk_61 (dk_at dksX2_readRules_1 1 rfl rfl)
theorem dX2_readRules_26 : decode cX2_readRules 26 = .ok (.aload_n 0, 1) := dk_42 (dk_at dksX2_readRules_1 2 rfl rfl)
theorem dX2_readRules_27 : decode cX2_readRules 27 = .ok (.getfield 173, 3) := dk_180 0 173 (dk_at dksX2_readRules_1 3 rfl rfl)
theorem dX2_readRules_30 : decode cX2_readRules 30 = .ok (.ifCond .eq 34, 3) := dk_153 0 34 (dk_at dksX2_readRules_1 6 rfl rfl)
theorem dX2_readRules_33 : decode cX2_readRules 33 = .ok (.aload_n 0, 1) := dk_42 (dk_at dksX2_readRules_1 9 rfl rfl)
theorem dX2_readRules_34 : decode cX2_readRules 34 = .ok (.getfield 183, 3) := dk_180 0 183 (dk_at dksX2_readRules_1 10 rfl rfl)
theorem dX2_readRules_37 : decode cX2_readRules 37 = .ok (.ifCond .ne 27, 3) := dk_154 0 27 (dk_at dksX2_readRules_1 13 rfl rfl)
theorem dX2_readRules_40 : decode cX2_readRules 40 = .ok (.iload_n 2, 1) := dk_28 (dk_at dksX2_readRules_1 16 rfl rfl)
theorem dX2_readRules_41 : decode cX2_readRules 41 = .ok (.bipush 20, 2) := dk_16 20 (dk_at dksX2_readRules_1 17 rfl rfl)
theorem dX2_readRules_43 : decode cX2_readRules 43 = .ok (.if_icmp .ne 10, 3) := dk_160 0 10 (dk_at dksX2_readRules_1 19 rfl rfl)
theorem dX2_readRules_46 : decode cX2_readRules 46 = .ok (.aload_n 0, 1) := dk_42 (dk_at dksX2_readRules_1 22 rfl rfl)
theorem dX2_readRules_47 : decode cX2_readRules 47 = .ok (.invokevirtual 194, 3) := dk_182 0 194 (dk_at dksX2_readRules_2 0 rfl rfl)
theorem dX2_readRules_50 : decode cX2_readRules 50 = .ok (.goto 8, 3) := dk_167 0 8 (dk_at dksX2_readRules_2 3 rfl rfl)
theorem dX2_readRules_53 : decode cX2_readRules 53 = .ok (.aload_n 0, 1) := dk_42 (dk_at dksX2_readRules_2 6 rfl rfl)
theorem dX2_readRules_54 : decode cX2_readRules 54 = .ok (.iload_n 1, 1) := dk_27 (dk_at dksX2_readRules_2 7 rfl rfl)
theorem dX2_readRules_55 : decode cX2_readRules 55 = .ok (.invokevirtual 339, 3) := dk_182 1 83 (dk_at dksX2_readRules_2 8 rfl rfl)
theorem dX2_readRules_58 : decode cX2_readRules 58 = .ok (.iinc 2 1, 3) := dk_132 2 1 (dk_at dksX2_readRules_2 11 rfl rfl)
theorem dX2_readRules_61 : decode cX2_readRules 61 = .ok (.goto (-35), 3) := dk_167 255 221 (dk_at dksX2_readRules_2 14 rfl rfl)
theorem dX2_readRules_64 : decode cX2_readRules 64 = .ok (.aload_n 0, 1) := dk_42 (dk_at dksX2_readRules_2 17 rfl rfl)
theorem dX2_readRules_65 : decode cX2_readRules 65 = .ok (.getfield 55, 3) := dk_180 0 55 (dk_at dksX2_readRules_2 18 rfl rfl)
theorem dX2_readRules_68 : decode cX2_readRules 68 = .ok (.iload_n 1, 1) := dk_27 (dk_at dksX2_readRules_2 21 rfl rfl)
theorem dX2_readRules_69 : decode cX2_readRules 69 = .ok (.bipush 13, 2) := dk_16 13 (dk_at dksX2_readRules_2 22 rfl rfl)
theorem dX2_readRules_71 : decode cX2_readRules 71 = .ok (.iadd, 1) := dk_96 (dk_at dksX2_readRules_3 0 rfl rfl)
theorem dX2_readRules_72 : decode cX2_readRules 72 = .ok (.iload_n 2, 1) := dk_28 (dk_at dksX2_readRules_3 1 rfl rfl)
theorem dX2_readRules_73 : decode cX2_readRules 73 = .ok (.iastore, 1) := dk_79 (dk_at dksX2_readRules_3 2 rfl rfl)
theorem dX2_readRules_74 : decode cX2_readRules 74 = .ok (.aload_n 0, 1) := dk_42 (dk_at dksX2_readRules_3 3 rfl rfl)
theorem dX2_readRules_75 : decode cX2_readRules 75 = .ok (.getfield 183, 3) := dk_180 0 183 (dk_at dksX2_readRules_3 4 rfl rfl)
theorem dX2_readRules_78 : decode cX2_readRules 78 = .ok (.ifCond .ne 7, 3) := dk_154 0 7 (dk_at dksX2_readRules_3 7 rfl rfl)
theorem dX2_readRules_81 : decode cX2_readRules 81 = .ok (.iconst 1, 1) := dk_4 (dk_at dksX2_readRules_3 10 rfl rfl)
theorem dX2_readRules_82 : decode cX2_readRules 82 = .ok (.goto 4, 3) := dk_167 0 4 (dk_at dksX2_readRules_3 11 rfl rfl)
theorem dX2_readRules_85 : decode cX2_readRules 85 = .ok (.iconst 0, 1) := dk_3 (dk_at dksX2_readRules_3 14 rfl rfl)
theorem dX2_readRules_86 : decode cX2_readRules 86 = .ok (.ireturn, 1) := dk_172 (dk_at dksX2_readRules_3 15 rfl rfl)
abbrev cX2_readRule : ByteArray := prog_23_method_30_code
def yX2_readRule : MethodName := ⟨RX2, "readRule", "(I)V"⟩
def dkwX2_readRule_19 : List UInt8 := [20, 1, 46, 20, 1, 48, 182, 1, 52, 79, 167, 0, 7, 42, 182, 0, 194, 42, 182, 1, 30, 177]
abbrev dktX2_readRule_19 : List UInt8 := dkwX2_readRule_19 ++ []
def dkwX2_readRule_18 : List UInt8 := [182, 0, 187, 153, 0, 32, 42, 182, 0, 191, 42, 180, 0, 55, 27, 16, 12, 96, 42, 20, 1, 81]
abbrev dktX2_readRule_18 : List UInt8 := dkwX2_readRule_18 ++ dktX2_readRule_19
def dkwX2_readRule_17 : List UInt8 := [16, 11, 96, 42, 20, 1, 77, 20, 0, 213, 20, 1, 63, 182, 1, 52, 79, 167, 0, 46, 42, 20, 1, 79]
abbrev dktX2_readRule_17 : List UInt8 := dkwX2_readRule_17 ++ dktX2_readRule_18
def dkwX2_readRule_16 : List UInt8 := [79, 167, 0, 85, 42, 20, 0, 219, 182, 0, 187, 153, 0, 32, 42, 182, 0, 191, 42, 180, 0, 55, 27]
abbrev dktX2_readRule_16 : List UInt8 := dkwX2_readRule_16 ++ dktX2_readRule_17
def dkwX2_readRule_15 : List UInt8 := [182, 0, 191, 42, 180, 0, 55, 27, 16, 10, 96, 42, 20, 1, 73, 20, 1, 75, 20, 1, 77, 182, 1, 52]
abbrev dktX2_readRule_15 : List UInt8 := dkwX2_readRule_15 ++ dktX2_readRule_16
def dkwX2_readRule_14 : List UInt8 := [20, 1, 69, 20, 1, 63, 182, 1, 52, 79, 167, 0, 124, 42, 20, 1, 71, 182, 0, 187, 153, 0, 32, 42]
abbrev dktX2_readRule_14 : List UInt8 := dkwX2_readRule_14 ++ dktX2_readRule_15
def dkwX2_readRule_13 : List UInt8 := [182, 0, 187, 153, 0, 32, 42, 182, 0, 191, 42, 180, 0, 55, 27, 16, 9, 96, 42, 20, 0, 215]
abbrev dktX2_readRule_13 : List UInt8 := dkwX2_readRule_13 ++ dktX2_readRule_14
def dkwX2_readRule_12 : List UInt8 := [180, 0, 55, 27, 16, 8, 96, 42, 3, 17, 3, 231, 182, 0, 232, 79, 167, 0, 163, 42, 20, 1, 24]
abbrev dktX2_readRule_12 : List UInt8 := dkwX2_readRule_12 ++ dktX2_readRule_13
def dkwX2_readRule_11 : List UInt8 := [182, 0, 232, 79, 167, 0, 197, 42, 20, 1, 67, 182, 0, 187, 153, 0, 27, 42, 182, 0, 191, 42]
abbrev dktX2_readRule_11 : List UInt8 := dkwX2_readRule_11 ++ dktX2_readRule_12
def dkwX2_readRule_10 : List UInt8 := [182, 0, 187, 153, 0, 27, 42, 182, 0, 191, 42, 180, 0, 55, 27, 16, 7, 96, 42, 3, 17, 3, 231]
abbrev dktX2_readRule_10 : List UInt8 := dkwX2_readRule_10 ++ dktX2_readRule_11
def dkwX2_readRule_9 : List UInt8 := [96, 42, 20, 1, 59, 20, 1, 61, 20, 1, 63, 182, 1, 52, 79, 167, 0, 231, 42, 20, 1, 65]
abbrev dktX2_readRule_9 : List UInt8 := dkwX2_readRule_9 ++ dktX2_readRule_10
def dkwX2_readRule_8 : List UInt8 := [167, 1, 14, 42, 20, 1, 20, 182, 0, 187, 153, 0, 32, 42, 182, 0, 191, 42, 180, 0, 55, 27, 16, 6]
abbrev dktX2_readRule_8 : List UInt8 := dkwX2_readRule_8 ++ dktX2_readRule_9
def dkwX2_readRule_7 : List UInt8 := [182, 0, 187, 153, 0, 22, 42, 182, 0, 191, 42, 180, 0, 55, 27, 8, 96, 42, 182, 1, 56, 79]
abbrev dktX2_readRule_7 : List UInt8 := dkwX2_readRule_7 ++ dktX2_readRule_8
def dkwX2_readRule_6 : List UInt8 := [182, 0, 191, 42, 180, 0, 55, 27, 7, 96, 42, 182, 1, 56, 79, 167, 1, 43, 42, 20, 0, 215]
abbrev dktX2_readRule_6 : List UInt8 := dkwX2_readRule_6 ++ dktX2_readRule_7
def dkwX2_readRule_5 : List UInt8 := [27, 6, 96, 42, 182, 1, 56, 79, 167, 1, 72, 42, 20, 0, 217, 182, 0, 187, 153, 0, 22, 42]
abbrev dktX2_readRule_5 : List UInt8 := dkwX2_readRule_5 ++ dktX2_readRule_6
def dkwX2_readRule_4 : List UInt8 := [167, 255, 226, 167, 1, 101, 42, 20, 0, 209, 182, 0, 187, 153, 0, 22, 42, 182, 0, 191, 42, 180, 0, 55]
abbrev dktX2_readRule_4 : List UInt8 := dkwX2_readRule_4 ++ dktX2_readRule_5
def dkwX2_readRule_3 : List UInt8 := [28, 6, 159, 0, 9, 28, 21, 4, 160, 0, 13, 42, 180, 0, 55, 27, 21, 4, 96, 29, 79, 132, 4, 1]
abbrev dktX2_readRule_3 : List UInt8 := dkwX2_readRule_3 ++ dktX2_readRule_4
def dkwX2_readRule_2 : List UInt8 := [20, 0, 225, 20, 0, 227, 182, 1, 52, 61, 42, 182, 1, 56, 62, 3, 54, 4, 21, 4, 6, 162, 0, 30]
abbrev dktX2_readRule_2 : List UInt8 := dkwX2_readRule_2 ++ dktX2_readRule_3
def dkwX2_readRule_1 : List UInt8 := [6, 167, 0, 4, 2, 61, 28, 6, 160, 0, 10, 42, 182, 0, 191, 167, 0, 17, 42, 20, 0, 223]
abbrev dktX2_readRule_1 : List UInt8 := dkwX2_readRule_1 ++ dktX2_readRule_2
def dkwX2_readRule_0 : List UInt8 := [42, 20, 0, 213, 182, 0, 187, 153, 0, 93, 42, 182, 0, 191, 42, 20, 1, 50, 182, 0, 187, 153, 0, 7]
abbrev dktX2_readRule_0 : List UInt8 := dkwX2_readRule_0 ++ dktX2_readRule_1
theorem dksX2_readRule_0 : cX2_readRule.data.toList.drop 0 = dktX2_readRule_0 := by decide +kernel
theorem dksX2_readRule_1 : cX2_readRule.data.toList.drop 24 = dktX2_readRule_1 := dk_seg dksX2_readRule_0 24 rfl rfl
theorem dksX2_readRule_2 : cX2_readRule.data.toList.drop 46 = dktX2_readRule_2 := dk_seg dksX2_readRule_1 22 rfl rfl
theorem dksX2_readRule_3 : cX2_readRule.data.toList.drop 70 = dktX2_readRule_3 := dk_seg dksX2_readRule_2 24 rfl rfl
theorem dksX2_readRule_4 : cX2_readRule.data.toList.drop 94 = dktX2_readRule_4 := dk_seg dksX2_readRule_3 24 rfl rfl
theorem dksX2_readRule_5 : cX2_readRule.data.toList.drop 118 = dktX2_readRule_5 := dk_seg dksX2_readRule_4 24 rfl rfl
theorem dksX2_readRule_6 : cX2_readRule.data.toList.drop 140 = dktX2_readRule_6 := dk_seg dksX2_readRule_5 22 rfl rfl
theorem dksX2_readRule_7 : cX2_readRule.data.toList.drop 162 = dktX2_readRule_7 := dk_seg dksX2_readRule_6 22 rfl rfl
theorem dksX2_readRule_8 : cX2_readRule.data.toList.drop 184 = dktX2_readRule_8 := dk_seg dksX2_readRule_7 22 rfl rfl
theorem dksX2_readRule_9 : cX2_readRule.data.toList.drop 208 = dktX2_readRule_9 := dk_seg dksX2_readRule_8 24 rfl rfl
theorem dksX2_readRule_10 : cX2_readRule.data.toList.drop 230 = dktX2_readRule_10 := dk_seg dksX2_readRule_9 22 rfl rfl
theorem dksX2_readRule_11 : cX2_readRule.data.toList.drop 253 = dktX2_readRule_11 := dk_seg dksX2_readRule_10 23 rfl rfl
theorem dksX2_readRule_12 : cX2_readRule.data.toList.drop 275 = dktX2_readRule_12 := dk_seg dksX2_readRule_11 22 rfl rfl
theorem dksX2_readRule_13 : cX2_readRule.data.toList.drop 298 = dktX2_readRule_13 := dk_seg dksX2_readRule_12 23 rfl rfl
theorem dksX2_readRule_14 : cX2_readRule.data.toList.drop 320 = dktX2_readRule_14 := dk_seg dksX2_readRule_13 22 rfl rfl
theorem dksX2_readRule_15 : cX2_readRule.data.toList.drop 344 = dktX2_readRule_15 := dk_seg dksX2_readRule_14 24 rfl rfl
theorem dksX2_readRule_16 : cX2_readRule.data.toList.drop 368 = dktX2_readRule_16 := dk_seg dksX2_readRule_15 24 rfl rfl
theorem dksX2_readRule_17 : cX2_readRule.data.toList.drop 391 = dktX2_readRule_17 := dk_seg dksX2_readRule_16 23 rfl rfl
theorem dksX2_readRule_18 : cX2_readRule.data.toList.drop 415 = dktX2_readRule_18 := dk_seg dksX2_readRule_17 24 rfl rfl
theorem dksX2_readRule_19 : cX2_readRule.data.toList.drop 437 = dktX2_readRule_19 := dk_seg dksX2_readRule_18 22 rfl rfl
theorem dX2_readRule_0 : decode cX2_readRule 0 = .ok (.aload_n 0, 1) := dk_42 (dk_at dksX2_readRule_0 0 rfl rfl)
theorem dX2_readRule_1 : decode cX2_readRule 1 = .ok (.ldc2_w 213, 3) := dk_20 0 213 (dk_at dksX2_readRule_0 1 rfl rfl)
theorem dX2_readRule_4 : decode cX2_readRule 4 = .ok (.invokevirtual 187, 3) := dk_182 0 187 (dk_at dksX2_readRule_0 4 rfl rfl)
theorem dX2_readRule_7 : decode cX2_readRule 7 = .ok (.ifCond .eq 93, 3) := dk_153 0 93 (dk_at dksX2_readRule_0 7 rfl rfl)
theorem dX2_readRule_10 : decode cX2_readRule 10 = .ok (.aload_n 0, 1) := dk_42 (dk_at dksX2_readRule_0 10 rfl rfl)
theorem dX2_readRule_11 : decode cX2_readRule 11 = .ok (.invokevirtual 191, 3) := dk_182 0 191 (dk_at dksX2_readRule_0 11 rfl rfl)
theorem dX2_readRule_14 : decode cX2_readRule 14 = .ok (.aload_n 0, 1) := dk_42 (dk_at dksX2_readRule_0 14 rfl rfl)
theorem dX2_readRule_15 : decode cX2_readRule 15 = .ok (.ldc2_w 306, 3) := dk_20 1 50 (dk_at dksX2_readRule_0 15 rfl rfl)
theorem dX2_readRule_18 : decode cX2_readRule 18 = .ok (.invokevirtual 187, 3) := dk_182 0 187 (dk_at dksX2_readRule_0 18 rfl rfl)
theorem dX2_readRule_21 : decode cX2_readRule 21 = .ok (.ifCond .eq 7, 3) := dk_153 0 7 (dk_at dksX2_readRule_0 21 rfl rfl)
theorem dX2_readRule_24 : decode cX2_readRule 24 = .ok (.iconst 3, 1) := dk_6 (dk_at dksX2_readRule_1 0 rfl rfl)
theorem dX2_readRule_25 : decode cX2_readRule 25 = .ok (.goto 4, 3) := dk_167 0 4 (dk_at dksX2_readRule_1 1 rfl rfl)
theorem dX2_readRule_28 : decode cX2_readRule 28 = .ok (.iconst (-1), 1) := dk_2 (dk_at dksX2_readRule_1 4 rfl rfl)
theorem dX2_readRule_29 : decode cX2_readRule 29 = .ok (.istore_n 2, 1) := dk_61 (dk_at dksX2_readRule_1 5 rfl rfl)
theorem dX2_readRule_30 : decode cX2_readRule 30 = .ok (.iload_n 2, 1) := dk_28 (dk_at dksX2_readRule_1 6 rfl rfl)
theorem dX2_readRule_31 : decode cX2_readRule 31 = .ok (.iconst 3, 1) := dk_6 (dk_at dksX2_readRule_1 7 rfl rfl)
theorem dX2_readRule_32 : decode cX2_readRule 32 = .ok (.if_icmp .ne 10, 3) := dk_160 0 10 (dk_at dksX2_readRule_1 8 rfl rfl)
theorem dX2_readRule_35 : decode cX2_readRule 35 = .ok (.aload_n 0, 1) := dk_42 (dk_at dksX2_readRule_1 11 rfl rfl)
theorem dX2_readRule_36 : decode cX2_readRule 36 = .ok (.invokevirtual 191, 3) := dk_182 0 191 (dk_at dksX2_readRule_1 12 rfl rfl)
theorem dX2_readRule_39 : decode cX2_readRule 39 = .ok (.goto 17, 3) := dk_167 0 17 (dk_at dksX2_readRule_1 15 rfl rfl)
theorem dX2_readRule_42 : decode cX2_readRule 42 = .ok (.aload_n 0, 1) := dk_42 (dk_at dksX2_readRule_1 18 rfl rfl)
theorem dX2_readRule_43 : decode cX2_readRule 43 = .ok (.ldc2_w 223, 3) := dk_20 0 223 (dk_at dksX2_readRule_1 19 rfl rfl)
theorem dX2_readRule_46 : decode cX2_readRule 46 = .ok (.ldc2_w 225, 3) := dk_20 0 225 (dk_at dksX2_readRule_2 0 rfl rfl)
theorem dX2_readRule_49 : decode cX2_readRule 49 = .ok (.ldc2_w 227, 3) := dk_20 0 227 (dk_at dksX2_readRule_2 3 rfl rfl)
theorem dX2_readRule_52 : decode cX2_readRule 52 = .ok (.invokevirtual 308, 3) := dk_182 1 52 (dk_at dksX2_readRule_2 6 rfl rfl)
theorem dX2_readRule_55 : decode cX2_readRule 55 = .ok (.istore_n 2, 1) := dk_61 (dk_at dksX2_readRule_2 9 rfl rfl)
theorem dX2_readRule_56 : decode cX2_readRule 56 = .ok (.aload_n 0, 1) := dk_42 (dk_at dksX2_readRule_2 10 rfl rfl)
theorem dX2_readRule_57 : decode cX2_readRule 57 = .ok (.invokevirtual 312, 3) := dk_182 1 56 (dk_at dksX2_readRule_2 11 rfl rfl)
theorem dX2_readRule_60 : decode cX2_readRule 60 = .ok (.istore_n 3, 1) := dk_62 (dk_at dksX2_readRule_2 14 rfl rfl)
theorem dX2_readRule_61 : decode cX2_readRule 61 = .ok (.iconst 0, 1) := dk_3 (dk_at dksX2_readRule_2 15 rfl rfl)
theorem dX2_readRule_62 : decode cX2_readRule 62 = .ok (.istore 4, 2) := dk_54 4 (dk_at dksX2_readRule_2 16 rfl rfl)
theorem dX2_readRule_64 : decode cX2_readRule 64 = .ok (.iload 4, 2) := dk_21 4 (dk_at dksX2_readRule_2 18 rfl rfl)
theorem dX2_readRule_66 : decode cX2_readRule 66 = .ok (.iconst 3, 1) := dk_6 (dk_at dksX2_readRule_2 20 rfl rfl)
theorem dX2_readRule_67 : decode cX2_readRule 67 = .ok (.if_icmp .ge 30, 3) := dk_162 0 30 (dk_at dksX2_readRule_2 21 rfl rfl)
theorem dX2_readRule_70 : decode cX2_readRule 70 = .ok (.iload_n 2, 1) := dk_28 (dk_at dksX2_readRule_3 0 rfl rfl)
theorem dX2_readRule_71 : decode cX2_readRule 71 = .ok (.iconst 3, 1) := dk_6 (dk_at dksX2_readRule_3 1 rfl rfl)
theorem dX2_readRule_72 : decode cX2_readRule 72 = .ok (.if_icmp .eq 9, 3) := dk_159 0 9 (dk_at dksX2_readRule_3 2 rfl rfl)
theorem dX2_readRule_75 : decode cX2_readRule 75 = .ok (.iload_n 2, 1) := dk_28 (dk_at dksX2_readRule_3 5 rfl rfl)
theorem dX2_readRule_76 : decode cX2_readRule 76 = .ok (.iload 4, 2) := dk_21 4 (dk_at dksX2_readRule_3 6 rfl rfl)
theorem dX2_readRule_78 : decode cX2_readRule 78 = .ok (.if_icmp .ne 13, 3) := dk_160 0 13 (dk_at dksX2_readRule_3 8 rfl rfl)
theorem dX2_readRule_81 : decode cX2_readRule 81 = .ok (.aload_n 0, 1) := dk_42 (dk_at dksX2_readRule_3 11 rfl rfl)
theorem dX2_readRule_82 : decode cX2_readRule 82 = .ok (.getfield 55, 3) := dk_180 0 55 (dk_at dksX2_readRule_3 12 rfl rfl)
theorem dX2_readRule_85 : decode cX2_readRule 85 = .ok (.iload_n 1, 1) := dk_27 (dk_at dksX2_readRule_3 15 rfl rfl)
theorem dX2_readRule_86 : decode cX2_readRule 86 = .ok (.iload 4, 2) := dk_21 4 (dk_at dksX2_readRule_3 16 rfl rfl)
theorem dX2_readRule_88 : decode cX2_readRule 88 = .ok (.iadd, 1) := dk_96 (dk_at dksX2_readRule_3 18 rfl rfl)
theorem dX2_readRule_89 : decode cX2_readRule 89 = .ok (.iload_n 3, 1) := dk_29 (dk_at dksX2_readRule_3 19 rfl rfl)
theorem dX2_readRule_90 : decode cX2_readRule 90 = .ok (.iastore, 1) := dk_79 (dk_at dksX2_readRule_3 20 rfl rfl)
theorem dX2_readRule_91 : decode cX2_readRule 91 = .ok (.iinc 4 1, 3) := dk_132 4 1 (dk_at dksX2_readRule_3 21 rfl rfl)
theorem dX2_readRule_94 : decode cX2_readRule 94 = .ok (.goto (-30), 3) := dk_167 255 226 (dk_at dksX2_readRule_4 0 rfl rfl)
theorem dX2_readRule_97 : decode cX2_readRule 97 = .ok (.goto 357, 3) := dk_167 1 101 (dk_at dksX2_readRule_4 3 rfl rfl)
theorem dX2_readRule_100 : decode cX2_readRule 100 = .ok (.aload_n 0, 1) := dk_42 (dk_at dksX2_readRule_4 6 rfl rfl)
theorem dX2_readRule_101 : decode cX2_readRule 101 = .ok (.ldc2_w 209, 3) := dk_20 0 209 (dk_at dksX2_readRule_4 7 rfl rfl)
theorem dX2_readRule_104 : decode cX2_readRule 104 = .ok (.invokevirtual 187, 3) := dk_182 0 187 (dk_at dksX2_readRule_4 10 rfl rfl)
theorem dX2_readRule_107 : decode cX2_readRule 107 = .ok (.ifCond .eq 22, 3) := dk_153 0 22 (dk_at dksX2_readRule_4 13 rfl rfl)
theorem dX2_readRule_110 : decode cX2_readRule 110 = .ok (.aload_n 0, 1) := dk_42 (dk_at dksX2_readRule_4 16 rfl rfl)
theorem dX2_readRule_111 : decode cX2_readRule 111 = .ok (.invokevirtual 191, 3) := dk_182 0 191 (dk_at dksX2_readRule_4 17 rfl rfl)
theorem dX2_readRule_114 : decode cX2_readRule 114 = .ok (.aload_n 0, 1) := dk_42 (dk_at dksX2_readRule_4 20 rfl rfl)
theorem dX2_readRule_115 : decode cX2_readRule 115 = .ok (.getfield 55, 3) := dk_180 0 55 (dk_at dksX2_readRule_4 21 rfl rfl)
theorem dX2_readRule_118 : decode cX2_readRule 118 = .ok (.iload_n 1, 1) := dk_27 (dk_at dksX2_readRule_5 0 rfl rfl)
theorem dX2_readRule_119 : decode cX2_readRule 119 = .ok (.iconst 3, 1) := dk_6 (dk_at dksX2_readRule_5 1 rfl rfl)
theorem dX2_readRule_120 : decode cX2_readRule 120 = .ok (.iadd, 1) := dk_96 (dk_at dksX2_readRule_5 2 rfl rfl)
theorem dX2_readRule_121 : decode cX2_readRule 121 = .ok (.aload_n 0, 1) := dk_42 (dk_at dksX2_readRule_5 3 rfl rfl)
theorem dX2_readRule_122 : decode cX2_readRule 122 = .ok (.invokevirtual 312, 3) := dk_182 1 56 (dk_at dksX2_readRule_5 4 rfl rfl)
theorem dX2_readRule_125 : decode cX2_readRule 125 = .ok (.iastore, 1) := dk_79 (dk_at dksX2_readRule_5 7 rfl rfl)
theorem dX2_readRule_126 : decode cX2_readRule 126 = .ok (.goto 328, 3) := dk_167 1 72 (dk_at dksX2_readRule_5 8 rfl rfl)
theorem dX2_readRule_129 : decode cX2_readRule 129 = .ok (.aload_n 0, 1) := dk_42 (dk_at dksX2_readRule_5 11 rfl rfl)
theorem dX2_readRule_130 : decode cX2_readRule 130 = .ok (.ldc2_w 217, 3) := dk_20 0 217 (dk_at dksX2_readRule_5 12 rfl rfl)
theorem dX2_readRule_133 : decode cX2_readRule 133 = .ok (.invokevirtual 187, 3) := dk_182 0 187 (dk_at dksX2_readRule_5 15 rfl rfl)
theorem dX2_readRule_136 : decode cX2_readRule 136 = .ok (.ifCond .eq 22, 3) := dk_153 0 22 (dk_at dksX2_readRule_5 18 rfl rfl)
theorem dX2_readRule_139 : decode cX2_readRule 139 = .ok (.aload_n 0, 1) := dk_42 (dk_at dksX2_readRule_5 21 rfl rfl)
theorem dX2_readRule_140 : decode cX2_readRule 140 = .ok (.invokevirtual 191, 3) := dk_182 0 191 (dk_at dksX2_readRule_6 0 rfl rfl)
theorem dX2_readRule_143 : decode cX2_readRule 143 = .ok (.aload_n 0, 1) := dk_42 (dk_at dksX2_readRule_6 3 rfl rfl)
theorem dX2_readRule_144 : decode cX2_readRule 144 = .ok (.getfield 55, 3) := dk_180 0 55 (dk_at dksX2_readRule_6 4 rfl rfl)
theorem dX2_readRule_147 : decode cX2_readRule 147 = .ok (.iload_n 1, 1) := dk_27 (dk_at dksX2_readRule_6 7 rfl rfl)
theorem dX2_readRule_148 : decode cX2_readRule 148 = .ok (.iconst 4, 1) := dk_7 (dk_at dksX2_readRule_6 8 rfl rfl)
theorem dX2_readRule_149 : decode cX2_readRule 149 = .ok (.iadd, 1) := dk_96 (dk_at dksX2_readRule_6 9 rfl rfl)
theorem dX2_readRule_150 : decode cX2_readRule 150 = .ok (.aload_n 0, 1) := dk_42 (dk_at dksX2_readRule_6 10 rfl rfl)
theorem dX2_readRule_151 : decode cX2_readRule 151 = .ok (.invokevirtual 312, 3) := dk_182 1 56 (dk_at dksX2_readRule_6 11 rfl rfl)
theorem dX2_readRule_154 : decode cX2_readRule 154 = .ok (.iastore, 1) := dk_79 (dk_at dksX2_readRule_6 14 rfl rfl)
theorem dX2_readRule_155 : decode cX2_readRule 155 = .ok (.goto 299, 3) := dk_167 1 43 (dk_at dksX2_readRule_6 15 rfl rfl)
theorem dX2_readRule_158 : decode cX2_readRule 158 = .ok (.aload_n 0, 1) := dk_42 (dk_at dksX2_readRule_6 18 rfl rfl)
theorem dX2_readRule_159 : decode cX2_readRule 159 = .ok (.ldc2_w 215, 3) := dk_20 0 215 (dk_at dksX2_readRule_6 19 rfl rfl)
theorem dX2_readRule_162 : decode cX2_readRule 162 = .ok (.invokevirtual 187, 3) := dk_182 0 187 (dk_at dksX2_readRule_7 0 rfl rfl)
theorem dX2_readRule_165 : decode cX2_readRule 165 = .ok (.ifCond .eq 22, 3) := dk_153 0 22 (dk_at dksX2_readRule_7 3 rfl rfl)
theorem dX2_readRule_168 : decode cX2_readRule 168 = .ok (.aload_n 0, 1) := dk_42 (dk_at dksX2_readRule_7 6 rfl rfl)
theorem dX2_readRule_169 : decode cX2_readRule 169 = .ok (.invokevirtual 191, 3) := dk_182 0 191 (dk_at dksX2_readRule_7 7 rfl rfl)
theorem dX2_readRule_172 : decode cX2_readRule 172 = .ok (.aload_n 0, 1) := dk_42 (dk_at dksX2_readRule_7 10 rfl rfl)
theorem dX2_readRule_173 : decode cX2_readRule 173 = .ok (.getfield 55, 3) := dk_180 0 55 (dk_at dksX2_readRule_7 11 rfl rfl)
theorem dX2_readRule_176 : decode cX2_readRule 176 = .ok (.iload_n 1, 1) := dk_27 (dk_at dksX2_readRule_7 14 rfl rfl)
theorem dX2_readRule_177 : decode cX2_readRule 177 = .ok (.iconst 5, 1) := dk_8 (dk_at dksX2_readRule_7 15 rfl rfl)
theorem dX2_readRule_178 : decode cX2_readRule 178 = .ok (.iadd, 1) := dk_96 (dk_at dksX2_readRule_7 16 rfl rfl)
theorem dX2_readRule_179 : decode cX2_readRule 179 = .ok (.aload_n 0, 1) := dk_42 (dk_at dksX2_readRule_7 17 rfl rfl)
theorem dX2_readRule_180 : decode cX2_readRule 180 = .ok (.invokevirtual 312, 3) := dk_182 1 56 (dk_at dksX2_readRule_7 18 rfl rfl)
theorem dX2_readRule_183 : decode cX2_readRule 183 = .ok (.iastore, 1) := dk_79 (dk_at dksX2_readRule_7 21 rfl rfl)
theorem dX2_readRule_184 : decode cX2_readRule 184 = .ok (.goto 270, 3) := dk_167 1 14 (dk_at dksX2_readRule_8 0 rfl rfl)
theorem dX2_readRule_187 : decode cX2_readRule 187 = .ok (.aload_n 0, 1) := dk_42 (dk_at dksX2_readRule_8 3 rfl rfl)
theorem dX2_readRule_188 : decode cX2_readRule 188 = .ok (.ldc2_w 276, 3) := dk_20 1 20 (dk_at dksX2_readRule_8 4 rfl rfl)
theorem dX2_readRule_191 : decode cX2_readRule 191 = .ok (.invokevirtual 187, 3) := dk_182 0 187 (dk_at dksX2_readRule_8 7 rfl rfl)
theorem dX2_readRule_194 : decode cX2_readRule 194 = .ok (.ifCond .eq 32, 3) := dk_153 0 32 (dk_at dksX2_readRule_8 10 rfl rfl)
theorem dX2_readRule_197 : decode cX2_readRule 197 = .ok (.aload_n 0, 1) := dk_42 (dk_at dksX2_readRule_8 13 rfl rfl)
theorem dX2_readRule_198 : decode cX2_readRule 198 = .ok (.invokevirtual 191, 3) := dk_182 0 191 (dk_at dksX2_readRule_8 14 rfl rfl)
theorem dX2_readRule_201 : decode cX2_readRule 201 = .ok (.aload_n 0, 1) := dk_42 (dk_at dksX2_readRule_8 17 rfl rfl)
theorem dX2_readRule_202 : decode cX2_readRule 202 = .ok (.getfield 55, 3) := dk_180 0 55 (dk_at dksX2_readRule_8 18 rfl rfl)
theorem dX2_readRule_205 : decode cX2_readRule 205 = .ok (.iload_n 1, 1) := dk_27 (dk_at dksX2_readRule_8 21 rfl rfl)
theorem dX2_readRule_206 : decode cX2_readRule 206 = .ok (.bipush 6, 2) := dk_16 6 (dk_at dksX2_readRule_8 22 rfl rfl)
theorem dX2_readRule_208 : decode cX2_readRule 208 = .ok (.iadd, 1) := dk_96 (dk_at dksX2_readRule_9 0 rfl rfl)
theorem dX2_readRule_209 : decode cX2_readRule 209 = .ok (.aload_n 0, 1) := dk_42 (dk_at dksX2_readRule_9 1 rfl rfl)
theorem dX2_readRule_210 : decode cX2_readRule 210 = .ok (.ldc2_w 315, 3) := dk_20 1 59 (dk_at dksX2_readRule_9 2 rfl rfl)
theorem dX2_readRule_213 : decode cX2_readRule 213 = .ok (.ldc2_w 317, 3) := dk_20 1 61 (dk_at dksX2_readRule_9 5 rfl rfl)
theorem dX2_readRule_216 : decode cX2_readRule 216 = .ok (.ldc2_w 319, 3) := dk_20 1 63 (dk_at dksX2_readRule_9 8 rfl rfl)
theorem dX2_readRule_219 : decode cX2_readRule 219 = .ok (.invokevirtual 308, 3) := dk_182 1 52 (dk_at dksX2_readRule_9 11 rfl rfl)
theorem dX2_readRule_222 : decode cX2_readRule 222 = .ok (.iastore, 1) := dk_79 (dk_at dksX2_readRule_9 14 rfl rfl)
theorem dX2_readRule_223 : decode cX2_readRule 223 = .ok (.goto 231, 3) := dk_167 0 231 (dk_at dksX2_readRule_9 15 rfl rfl)
theorem dX2_readRule_226 : decode cX2_readRule 226 = .ok (.aload_n 0, 1) := dk_42 (dk_at dksX2_readRule_9 18 rfl rfl)
theorem dX2_readRule_227 : decode cX2_readRule 227 = .ok (.ldc2_w 321, 3) := dk_20 1 65 (dk_at dksX2_readRule_9 19 rfl rfl)
theorem dX2_readRule_230 : decode cX2_readRule 230 = .ok (.invokevirtual 187, 3) := dk_182 0 187 (dk_at dksX2_readRule_10 0 rfl rfl)
theorem dX2_readRule_233 : decode cX2_readRule 233 = .ok (.ifCond .eq 27, 3) := dk_153 0 27 (dk_at dksX2_readRule_10 3 rfl rfl)
theorem dX2_readRule_236 : decode cX2_readRule 236 = .ok (.aload_n 0, 1) := dk_42 (dk_at dksX2_readRule_10 6 rfl rfl)
theorem dX2_readRule_237 : decode cX2_readRule 237 = .ok (.invokevirtual 191, 3) := dk_182 0 191 (dk_at dksX2_readRule_10 7 rfl rfl)
theorem dX2_readRule_240 : decode cX2_readRule 240 = .ok (.aload_n 0, 1) := dk_42 (dk_at dksX2_readRule_10 10 rfl rfl)
theorem dX2_readRule_241 : decode cX2_readRule 241 = .ok (.getfield 55, 3) := dk_180 0 55 (dk_at dksX2_readRule_10 11 rfl rfl)
theorem dX2_readRule_244 : decode cX2_readRule 244 = .ok (.iload_n 1, 1) := dk_27 (dk_at dksX2_readRule_10 14 rfl rfl)
theorem dX2_readRule_245 : decode cX2_readRule 245 = .ok (.bipush 7, 2) := dk_16 7 (dk_at dksX2_readRule_10 15 rfl rfl)
theorem dX2_readRule_247 : decode cX2_readRule 247 = .ok (.iadd, 1) := dk_96 (dk_at dksX2_readRule_10 17 rfl rfl)
theorem dX2_readRule_248 : decode cX2_readRule 248 = .ok (.aload_n 0, 1) := dk_42 (dk_at dksX2_readRule_10 18 rfl rfl)
theorem dX2_readRule_249 : decode cX2_readRule 249 = .ok (.iconst 0, 1) := dk_3 (dk_at dksX2_readRule_10 19 rfl rfl)
theorem dX2_readRule_250 : decode cX2_readRule 250 = .ok (.sipush 999, 3) := dk_17 3 231 (dk_at dksX2_readRule_10 20 rfl rfl)
theorem dX2_readRule_253 : decode cX2_readRule 253 = .ok (.invokevirtual 232, 3) := dk_182 0 232 (dk_at dksX2_readRule_11 0 rfl rfl)
theorem dX2_readRule_256 : decode cX2_readRule 256 = .ok (.iastore, 1) := dk_79 (dk_at dksX2_readRule_11 3 rfl rfl)
theorem dX2_readRule_257 : decode cX2_readRule 257 = .ok (.goto 197, 3) := dk_167 0 197 (dk_at dksX2_readRule_11 4 rfl rfl)
theorem dX2_readRule_260 : decode cX2_readRule 260 = .ok (.aload_n 0, 1) := dk_42 (dk_at dksX2_readRule_11 7 rfl rfl)
theorem dX2_readRule_261 : decode cX2_readRule 261 = .ok (.ldc2_w 323, 3) := dk_20 1 67 (dk_at dksX2_readRule_11 8 rfl rfl)
theorem dX2_readRule_264 : decode cX2_readRule 264 = .ok (.invokevirtual 187, 3) := dk_182 0 187 (dk_at dksX2_readRule_11 11 rfl rfl)
theorem dX2_readRule_267 : decode cX2_readRule 267 = .ok (.ifCond .eq 27, 3) := dk_153 0 27 (dk_at dksX2_readRule_11 14 rfl rfl)
theorem dX2_readRule_270 : decode cX2_readRule 270 = .ok (.aload_n 0, 1) := dk_42 (dk_at dksX2_readRule_11 17 rfl rfl)
theorem dX2_readRule_271 : decode cX2_readRule 271 = .ok (.invokevirtual 191, 3) := dk_182 0 191 (dk_at dksX2_readRule_11 18 rfl rfl)
theorem dX2_readRule_274 : decode cX2_readRule 274 = .ok (.aload_n 0, 1) := dk_42 (dk_at dksX2_readRule_11 21 rfl rfl)
theorem dX2_readRule_275 : decode cX2_readRule 275 = .ok (.getfield 55, 3) := dk_180 0 55 (dk_at dksX2_readRule_12 0 rfl rfl)
theorem dX2_readRule_278 : decode cX2_readRule 278 = .ok (.iload_n 1, 1) := dk_27 (dk_at dksX2_readRule_12 3 rfl rfl)
theorem dX2_readRule_279 : decode cX2_readRule 279 = .ok (.bipush 8, 2) := dk_16 8 (dk_at dksX2_readRule_12 4 rfl rfl)
theorem dX2_readRule_281 : decode cX2_readRule 281 = .ok (.iadd, 1) := dk_96 (dk_at dksX2_readRule_12 6 rfl rfl)
theorem dX2_readRule_282 : decode cX2_readRule 282 = .ok (.aload_n 0, 1) := dk_42 (dk_at dksX2_readRule_12 7 rfl rfl)
theorem dX2_readRule_283 : decode cX2_readRule 283 = .ok (.iconst 0, 1) := dk_3 (dk_at dksX2_readRule_12 8 rfl rfl)
theorem dX2_readRule_284 : decode cX2_readRule 284 = .ok (.sipush 999, 3) := dk_17 3 231 (dk_at dksX2_readRule_12 9 rfl rfl)
theorem dX2_readRule_287 : decode cX2_readRule 287 = .ok (.invokevirtual 232, 3) := dk_182 0 232 (dk_at dksX2_readRule_12 12 rfl rfl)
theorem dX2_readRule_290 : decode cX2_readRule 290 = .ok (.iastore, 1) := dk_79 (dk_at dksX2_readRule_12 15 rfl rfl)
theorem dX2_readRule_291 : decode cX2_readRule 291 = .ok (.goto 163, 3) := dk_167 0 163 (dk_at dksX2_readRule_12 16 rfl rfl)
theorem dX2_readRule_294 : decode cX2_readRule 294 = .ok (.aload_n 0, 1) := dk_42 (dk_at dksX2_readRule_12 19 rfl rfl)
theorem dX2_readRule_295 : decode cX2_readRule 295 = .ok (.ldc2_w 280, 3) := dk_20 1 24 (dk_at dksX2_readRule_12 20 rfl rfl)
theorem dX2_readRule_298 : decode cX2_readRule 298 = .ok (.invokevirtual 187, 3) := dk_182 0 187 (dk_at dksX2_readRule_13 0 rfl rfl)
theorem dX2_readRule_301 : decode cX2_readRule 301 = .ok (.ifCond .eq 32, 3) := dk_153 0 32 (dk_at dksX2_readRule_13 3 rfl rfl)
theorem dX2_readRule_304 : decode cX2_readRule 304 = .ok (.aload_n 0, 1) := dk_42 (dk_at dksX2_readRule_13 6 rfl rfl)
theorem dX2_readRule_305 : decode cX2_readRule 305 = .ok (.invokevirtual 191, 3) := dk_182 0 191 (dk_at dksX2_readRule_13 7 rfl rfl)
theorem dX2_readRule_308 : decode cX2_readRule 308 = .ok (.aload_n 0, 1) := dk_42 (dk_at dksX2_readRule_13 10 rfl rfl)
theorem dX2_readRule_309 : decode cX2_readRule 309 = .ok (.getfield 55, 3) := dk_180 0 55 (dk_at dksX2_readRule_13 11 rfl rfl)
theorem dX2_readRule_312 : decode cX2_readRule 312 = .ok (.iload_n 1, 1) := dk_27 (dk_at dksX2_readRule_13 14 rfl rfl)
theorem dX2_readRule_313 : decode cX2_readRule 313 = .ok (.bipush 9, 2) := dk_16 9 (dk_at dksX2_readRule_13 15 rfl rfl)
theorem dX2_readRule_315 : decode cX2_readRule 315 = .ok (.iadd, 1) := dk_96 (dk_at dksX2_readRule_13 17 rfl rfl)
theorem dX2_readRule_316 : decode cX2_readRule 316 = .ok (.aload_n 0, 1) := dk_42 (dk_at dksX2_readRule_13 18 rfl rfl)
theorem dX2_readRule_317 : decode cX2_readRule 317 = .ok (.ldc2_w 215, 3) := dk_20 0 215 (dk_at dksX2_readRule_13 19 rfl rfl)
theorem dX2_readRule_320 : decode cX2_readRule 320 = .ok (.ldc2_w 325, 3) := dk_20 1 69 (dk_at dksX2_readRule_14 0 rfl rfl)
theorem dX2_readRule_323 : decode cX2_readRule 323 = .ok (.ldc2_w 319, 3) := dk_20 1 63 (dk_at dksX2_readRule_14 3 rfl rfl)
theorem dX2_readRule_326 : decode cX2_readRule 326 = .ok (.invokevirtual 308, 3) := dk_182 1 52 (dk_at dksX2_readRule_14 6 rfl rfl)
theorem dX2_readRule_329 : decode cX2_readRule 329 = .ok (.iastore, 1) := dk_79 (dk_at dksX2_readRule_14 9 rfl rfl)
theorem dX2_readRule_330 : decode cX2_readRule 330 = .ok (.goto 124, 3) := dk_167 0 124 (dk_at dksX2_readRule_14 10 rfl rfl)
theorem dX2_readRule_333 : decode cX2_readRule 333 = .ok (.aload_n 0, 1) := dk_42 (dk_at dksX2_readRule_14 13 rfl rfl)
theorem dX2_readRule_334 : decode cX2_readRule 334 = .ok (.ldc2_w 327, 3) := dk_20 1 71 (dk_at dksX2_readRule_14 14 rfl rfl)
theorem dX2_readRule_337 : decode cX2_readRule 337 = .ok (.invokevirtual 187, 3) := dk_182 0 187 (dk_at dksX2_readRule_14 17 rfl rfl)
theorem dX2_readRule_340 : decode cX2_readRule 340 = .ok (.ifCond .eq 32, 3) := dk_153 0 32 (dk_at dksX2_readRule_14 20 rfl rfl)
theorem dX2_readRule_343 : decode cX2_readRule 343 = .ok (.aload_n 0, 1) := dk_42 (dk_at dksX2_readRule_14 23 rfl rfl)
theorem dX2_readRule_344 : decode cX2_readRule 344 = .ok (.invokevirtual 191, 3) := dk_182 0 191 (dk_at dksX2_readRule_15 0 rfl rfl)
theorem dX2_readRule_347 : decode cX2_readRule 347 = .ok (.aload_n 0, 1) := dk_42 (dk_at dksX2_readRule_15 3 rfl rfl)
theorem dX2_readRule_348 : decode cX2_readRule 348 = .ok (.getfield 55, 3) := dk_180 0 55 (dk_at dksX2_readRule_15 4 rfl rfl)
theorem dX2_readRule_351 : decode cX2_readRule 351 = .ok (.iload_n 1, 1) := dk_27 (dk_at dksX2_readRule_15 7 rfl rfl)
theorem dX2_readRule_352 : decode cX2_readRule 352 = .ok (.bipush 10, 2) := dk_16 10 (dk_at dksX2_readRule_15 8 rfl rfl)
theorem dX2_readRule_354 : decode cX2_readRule 354 = .ok (.iadd, 1) := dk_96 (dk_at dksX2_readRule_15 10 rfl rfl)
theorem dX2_readRule_355 : decode cX2_readRule 355 = .ok (.aload_n 0, 1) := dk_42 (dk_at dksX2_readRule_15 11 rfl rfl)
theorem dX2_readRule_356 : decode cX2_readRule 356 = .ok (.ldc2_w 329, 3) := dk_20 1 73 (dk_at dksX2_readRule_15 12 rfl rfl)
theorem dX2_readRule_359 : decode cX2_readRule 359 = .ok (.ldc2_w 331, 3) := dk_20 1 75 (dk_at dksX2_readRule_15 15 rfl rfl)
theorem dX2_readRule_362 : decode cX2_readRule 362 = .ok (.ldc2_w 333, 3) := dk_20 1 77 (dk_at dksX2_readRule_15 18 rfl rfl)
theorem dX2_readRule_365 : decode cX2_readRule 365 = .ok (.invokevirtual 308, 3) := dk_182 1 52 (dk_at dksX2_readRule_15 21 rfl rfl)
theorem dX2_readRule_368 : decode cX2_readRule 368 = .ok (.iastore, 1) := dk_79 (dk_at dksX2_readRule_16 0 rfl rfl)
theorem dX2_readRule_369 : decode cX2_readRule 369 = .ok (.goto 85, 3) := dk_167 0 85 (dk_at dksX2_readRule_16 1 rfl rfl)
theorem dX2_readRule_372 : decode cX2_readRule 372 = .ok (.aload_n 0, 1) := dk_42 (dk_at dksX2_readRule_16 4 rfl rfl)
theorem dX2_readRule_373 : decode cX2_readRule 373 = .ok (.ldc2_w 219, 3) := dk_20 0 219 (dk_at dksX2_readRule_16 5 rfl rfl)
theorem dX2_readRule_376 : decode cX2_readRule 376 = .ok (.invokevirtual 187, 3) := dk_182 0 187 (dk_at dksX2_readRule_16 8 rfl rfl)
theorem dX2_readRule_379 : decode cX2_readRule 379 = .ok (.ifCond .eq 32, 3) := dk_153 0 32 (dk_at dksX2_readRule_16 11 rfl rfl)
theorem dX2_readRule_382 : decode cX2_readRule 382 = .ok (.aload_n 0, 1) := dk_42 (dk_at dksX2_readRule_16 14 rfl rfl)
theorem dX2_readRule_383 : decode cX2_readRule 383 = .ok (.invokevirtual 191, 3) := dk_182 0 191 (dk_at dksX2_readRule_16 15 rfl rfl)
theorem dX2_readRule_386 : decode cX2_readRule 386 = .ok (.aload_n 0, 1) := dk_42 (dk_at dksX2_readRule_16 18 rfl rfl)
theorem dX2_readRule_387 : decode cX2_readRule 387 = .ok (.getfield 55, 3) := dk_180 0 55 (dk_at dksX2_readRule_16 19 rfl rfl)
theorem dX2_readRule_390 : decode cX2_readRule 390 = .ok (.iload_n 1, 1) := dk_27 (dk_at dksX2_readRule_16 22 rfl rfl)
theorem dX2_readRule_391 : decode cX2_readRule 391 = .ok (.bipush 11, 2) := dk_16 11 (dk_at dksX2_readRule_17 0 rfl rfl)
theorem dX2_readRule_393 : decode cX2_readRule 393 = .ok (.iadd, 1) := dk_96 (dk_at dksX2_readRule_17 2 rfl rfl)
theorem dX2_readRule_394 : decode cX2_readRule 394 = .ok (.aload_n 0, 1) := dk_42 (dk_at dksX2_readRule_17 3 rfl rfl)
theorem dX2_readRule_395 : decode cX2_readRule 395 = .ok (.ldc2_w 333, 3) := dk_20 1 77 (dk_at dksX2_readRule_17 4 rfl rfl)
theorem dX2_readRule_398 : decode cX2_readRule 398 = .ok (.ldc2_w 213, 3) := dk_20 0 213 (dk_at dksX2_readRule_17 7 rfl rfl)
theorem dX2_readRule_401 : decode cX2_readRule 401 = .ok (.ldc2_w 319, 3) := dk_20 1 63 (dk_at dksX2_readRule_17 10 rfl rfl)
theorem dX2_readRule_404 : decode cX2_readRule 404 = .ok (.invokevirtual 308, 3) := dk_182 1 52 (dk_at dksX2_readRule_17 13 rfl rfl)
theorem dX2_readRule_407 : decode cX2_readRule 407 = .ok (.iastore, 1) := dk_79 (dk_at dksX2_readRule_17 16 rfl rfl)
theorem dX2_readRule_408 : decode cX2_readRule 408 = .ok (.goto 46, 3) := dk_167 0 46 (dk_at dksX2_readRule_17 17 rfl rfl)
theorem dX2_readRule_411 : decode cX2_readRule 411 = .ok (.aload_n 0, 1) := dk_42 (dk_at dksX2_readRule_17 20 rfl rfl)
theorem dX2_readRule_412 : decode cX2_readRule 412 = .ok (.ldc2_w 335, 3) := dk_20 1 79 (dk_at dksX2_readRule_17 21 rfl rfl)
theorem dX2_readRule_415 : decode cX2_readRule 415 = .ok (.invokevirtual 187, 3) := dk_182 0 187 (dk_at dksX2_readRule_18 0 rfl rfl)
theorem dX2_readRule_418 : decode cX2_readRule 418 = .ok (.ifCond .eq 32, 3) := dk_153 0 32 (dk_at dksX2_readRule_18 3 rfl rfl)
theorem dX2_readRule_421 : decode cX2_readRule 421 = .ok (.aload_n 0, 1) := dk_42 (dk_at dksX2_readRule_18 6 rfl rfl)
theorem dX2_readRule_422 : decode cX2_readRule 422 = .ok (.invokevirtual 191, 3) := dk_182 0 191 (dk_at dksX2_readRule_18 7 rfl rfl)
theorem dX2_readRule_425 : decode cX2_readRule 425 = .ok (.aload_n 0, 1) := dk_42 (dk_at dksX2_readRule_18 10 rfl rfl)
theorem dX2_readRule_426 : decode cX2_readRule 426 = .ok (.getfield 55, 3) := dk_180 0 55 (dk_at dksX2_readRule_18 11 rfl rfl)
theorem dX2_readRule_429 : decode cX2_readRule 429 = .ok (.iload_n 1, 1) := dk_27 (dk_at dksX2_readRule_18 14 rfl rfl)
theorem dX2_readRule_430 : decode cX2_readRule 430 = .ok (.bipush 12, 2) := dk_16 12 (dk_at dksX2_readRule_18 15 rfl rfl)
theorem dX2_readRule_432 : decode cX2_readRule 432 = .ok (.iadd, 1) := dk_96 (dk_at dksX2_readRule_18 17 rfl rfl)
theorem dX2_readRule_433 : decode cX2_readRule 433 = .ok (.aload_n 0, 1) := dk_42 (dk_at dksX2_readRule_18 18 rfl rfl)
theorem dX2_readRule_434 : decode cX2_readRule 434 = .ok (.ldc2_w 337, 3) := dk_20 1 81 (dk_at dksX2_readRule_18 19 rfl rfl)
theorem dX2_readRule_437 : decode cX2_readRule 437 = .ok (.ldc2_w 302, 3) := dk_20 1 46 (dk_at dksX2_readRule_19 0 rfl rfl)
theorem dX2_readRule_440 : decode cX2_readRule 440 = .ok (.ldc2_w 304, 3) := dk_20 1 48 (dk_at dksX2_readRule_19 3 rfl rfl)
theorem dX2_readRule_443 : decode cX2_readRule 443 = .ok (.invokevirtual 308, 3) := dk_182 1 52 (dk_at dksX2_readRule_19 6 rfl rfl)
theorem dX2_readRule_446 : decode cX2_readRule 446 = .ok (.iastore, 1) := dk_79 (dk_at dksX2_readRule_19 9 rfl rfl)
theorem dX2_readRule_447 : decode cX2_readRule 447 = .ok (.goto 7, 3) := dk_167 0 7 (dk_at dksX2_readRule_19 10 rfl rfl)
theorem dX2_readRule_450 : decode cX2_readRule 450 = .ok (.aload_n 0, 1) := dk_42 (dk_at dksX2_readRule_19 13 rfl rfl)
theorem dX2_readRule_451 : decode cX2_readRule 451 = .ok (.invokevirtual 194, 3) := dk_182 0 194 (dk_at dksX2_readRule_19 14 rfl rfl)
theorem dX2_readRule_454 : decode cX2_readRule 454 = .ok (.aload_n 0, 1) := dk_42 (dk_at dksX2_readRule_19 17 rfl rfl)
theorem dX2_readRule_455 : decode cX2_readRule 455 = .ok (.invokevirtual 286, 3) := dk_182 1 30 (dk_at dksX2_readRule_19 18 rfl rfl)
theorem dX2_readRule_458 : decode cX2_readRule 458 = .ok (.return_, 1) := dk_177 (dk_at dksX2_readRule_19 21 rfl rfl)
abbrev cX2_one : ByteArray := prog_23_method_29_code
def yX2_one : MethodName := ⟨RX2, "one", "(JJJ)I"⟩
def dkwX2_one_2 : List UInt8 := [182, 0, 194, 167, 0, 7, 42, 182, 0, 191, 21, 7, 172]
abbrev dktX2_one_2 : List UInt8 := dkwX2_one_2 ++ []
def dkwX2_one_1 : List UInt8 := [42, 22, 5, 182, 0, 187, 153, 0, 7, 5, 167, 0, 4, 2, 54, 7, 21, 7, 156, 0, 10, 42]
abbrev dktX2_one_1 : List UInt8 := dkwX2_one_1 ++ dktX2_one_2
def dkwX2_one_0 : List UInt8 := [42, 31, 182, 0, 187, 153, 0, 7, 3, 167, 0, 29, 42, 33, 182, 0, 187, 153, 0, 7, 4, 167, 0, 17]
abbrev dktX2_one_0 : List UInt8 := dkwX2_one_0 ++ dktX2_one_1
theorem dksX2_one_0 : cX2_one.data.toList.drop 0 = dktX2_one_0 := by decide +kernel
theorem dksX2_one_1 : cX2_one.data.toList.drop 24 = dktX2_one_1 := dk_seg dksX2_one_0 24 rfl rfl
theorem dksX2_one_2 : cX2_one.data.toList.drop 46 = dktX2_one_2 := dk_seg dksX2_one_1 22 rfl rfl
theorem dX2_one_0 : decode cX2_one 0 = .ok (.aload_n 0, 1) := dk_42 (dk_at dksX2_one_0 0 rfl rfl)
theorem dX2_one_1 : decode cX2_one 1 = .ok (.lload_n 1, 1) := dk_31 (dk_at dksX2_one_0 1 rfl rfl)
theorem dX2_one_2 : decode cX2_one 2 = .ok (.invokevirtual 187, 3) := dk_182 0 187 (dk_at dksX2_one_0 2 rfl rfl)
theorem dX2_one_5 : decode cX2_one 5 = .ok (.ifCond .eq 7, 3) := dk_153 0 7 (dk_at dksX2_one_0 5 rfl rfl)
theorem dX2_one_8 : decode cX2_one 8 = .ok (.iconst 0, 1) := dk_3 (dk_at dksX2_one_0 8 rfl rfl)
theorem dX2_one_9 : decode cX2_one 9 = .ok (.goto 29, 3) := dk_167 0 29 (dk_at dksX2_one_0 9 rfl rfl)
theorem dX2_one_12 : decode cX2_one 12 = .ok (.aload_n 0, 1) := dk_42 (dk_at dksX2_one_0 12 rfl rfl)
theorem dX2_one_13 : decode cX2_one 13 = .ok (.lload_n 3, 1) := dk_33 (dk_at dksX2_one_0 13 rfl rfl)
theorem dX2_one_14 : decode cX2_one 14 = .ok (.invokevirtual 187, 3) := dk_182 0 187 (dk_at dksX2_one_0 14 rfl rfl)
theorem dX2_one_17 : decode cX2_one 17 = .ok (.ifCond .eq 7, 3) := dk_153 0 7 (dk_at dksX2_one_0 17 rfl rfl)
theorem dX2_one_20 : decode cX2_one 20 = .ok (.iconst 1, 1) := dk_4 (dk_at dksX2_one_0 20 rfl rfl)
theorem dX2_one_21 : decode cX2_one 21 = .ok (.goto 17, 3) := dk_167 0 17 (dk_at dksX2_one_0 21 rfl rfl)
theorem dX2_one_24 : decode cX2_one 24 = .ok (.aload_n 0, 1) := dk_42 (dk_at dksX2_one_1 0 rfl rfl)
theorem dX2_one_25 : decode cX2_one 25 = .ok (.lload 5, 2) := dk_22 5 (dk_at dksX2_one_1 1 rfl rfl)
theorem dX2_one_27 : decode cX2_one 27 = .ok (.invokevirtual 187, 3) := dk_182 0 187 (dk_at dksX2_one_1 3 rfl rfl)
theorem dX2_one_30 : decode cX2_one 30 = .ok (.ifCond .eq 7, 3) := dk_153 0 7 (dk_at dksX2_one_1 6 rfl rfl)
theorem dX2_one_33 : decode cX2_one 33 = .ok (.iconst 2, 1) := dk_5 (dk_at dksX2_one_1 9 rfl rfl)
theorem dX2_one_34 : decode cX2_one 34 = .ok (.goto 4, 3) := dk_167 0 4 (dk_at dksX2_one_1 10 rfl rfl)
theorem dX2_one_37 : decode cX2_one 37 = .ok (.iconst (-1), 1) := dk_2 (dk_at dksX2_one_1 13 rfl rfl)
theorem dX2_one_38 : decode cX2_one 38 = .ok (.istore 7, 2) := dk_54 7 (dk_at dksX2_one_1 14 rfl rfl)
theorem dX2_one_40 : decode cX2_one 40 = .ok (.iload 7, 2) := dk_21 7 (dk_at dksX2_one_1 16 rfl rfl)
theorem dX2_one_42 : decode cX2_one 42 = .ok (.ifCond .ge 10, 3) := dk_156 0 10 (dk_at dksX2_one_1 18 rfl rfl)
theorem dX2_one_45 : decode cX2_one 45 = .ok (.aload_n 0, 1) := dk_42 (dk_at dksX2_one_1 21 rfl rfl)
theorem dX2_one_46 : decode cX2_one 46 = .ok (.invokevirtual 194, 3) := dk_182 0 194 (dk_at dksX2_one_2 0 rfl rfl)
theorem dX2_one_49 : decode cX2_one 49 = .ok (.goto 7, 3) := dk_167 0 7 (dk_at dksX2_one_2 3 rfl rfl)
theorem dX2_one_52 : decode cX2_one 52 = .ok (.aload_n 0, 1) := dk_42 (dk_at dksX2_one_2 6 rfl rfl)
theorem dX2_one_53 : decode cX2_one 53 = .ok (.invokevirtual 191, 3) := dk_182 0 191 (dk_at dksX2_one_2 7 rfl rfl)
theorem dX2_one_56 : decode cX2_one 56 = .ok (.iload 7, 2) := dk_21 7 (dk_at dksX2_one_2 10 rfl rfl)
theorem dX2_one_58 : decode cX2_one 58 = .ok (.ireturn, 1) := dk_172 (dk_at dksX2_one_2 12 rfl rfl)
abbrev cX2_whenHere : ByteArray := prog_23_method_28_code
def yX2_whenHere : MethodName := ⟨RX2, "whenHere", "()I"⟩
def dkwX2_whenHere_2 : List UInt8 := [42, 182, 0, 194, 167, 0, 7, 42, 182, 0, 191, 27, 172]
abbrev dktX2_whenHere_2 : List UInt8 := dkwX2_whenHere_2 ++ []
def dkwX2_whenHere_1 : List UInt8 := [4, 167, 0, 18, 42, 20, 0, 253, 182, 0, 187, 153, 0, 7, 5, 167, 0, 4, 2, 60, 27, 156, 0, 10]
abbrev dktX2_whenHere_1 : List UInt8 := dkwX2_whenHere_1 ++ dktX2_whenHere_2
def dkwX2_whenHere_0 : List UInt8 := [42, 20, 1, 46, 182, 0, 187, 153, 0, 7, 3, 167, 0, 32, 42, 20, 1, 48, 182, 0, 187, 153, 0, 7]
abbrev dktX2_whenHere_0 : List UInt8 := dkwX2_whenHere_0 ++ dktX2_whenHere_1
theorem dksX2_whenHere_0 : cX2_whenHere.data.toList.drop 0 = dktX2_whenHere_0 := by decide +kernel
theorem dksX2_whenHere_1 : cX2_whenHere.data.toList.drop 24 = dktX2_whenHere_1 := dk_seg dksX2_whenHere_0 24 rfl rfl
theorem dksX2_whenHere_2 : cX2_whenHere.data.toList.drop 48 = dktX2_whenHere_2 := dk_seg dksX2_whenHere_1 24 rfl rfl
theorem dX2_whenHere_0 : decode cX2_whenHere 0 = .ok (.aload_n 0, 1) := dk_42 (dk_at dksX2_whenHere_0 0 rfl rfl)
theorem dX2_whenHere_1 : decode cX2_whenHere 1 = .ok (.ldc2_w 302, 3) := dk_20 1 46 (dk_at dksX2_whenHere_0 1 rfl rfl)
theorem dX2_whenHere_4 : decode cX2_whenHere 4 = .ok (.invokevirtual 187, 3) := dk_182 0 187 (dk_at dksX2_whenHere_0 4 rfl rfl)
theorem dX2_whenHere_7 : decode cX2_whenHere 7 = .ok (.ifCond .eq 7, 3) := dk_153 0 7 (dk_at dksX2_whenHere_0 7 rfl rfl)
theorem dX2_whenHere_10 : decode cX2_whenHere 10 = .ok (.iconst 0, 1) := dk_3 (dk_at dksX2_whenHere_0 10 rfl rfl)
theorem dX2_whenHere_11 : decode cX2_whenHere 11 = .ok (.goto 32, 3) := dk_167 0 32 (dk_at dksX2_whenHere_0 11 rfl rfl)
theorem dX2_whenHere_14 : decode cX2_whenHere 14 = .ok (.aload_n 0, 1) := dk_42 (dk_at dksX2_whenHere_0 14 rfl rfl)
theorem dX2_whenHere_15 : decode cX2_whenHere 15 = .ok (.ldc2_w 304, 3) := dk_20 1 48 (dk_at dksX2_whenHere_0 15 rfl rfl)
theorem dX2_whenHere_18 : decode cX2_whenHere 18 = .ok (.invokevirtual 187, 3) := dk_182 0 187 (dk_at dksX2_whenHere_0 18 rfl rfl)
theorem dX2_whenHere_21 : decode cX2_whenHere 21 = .ok (.ifCond .eq 7, 3) := dk_153 0 7 (dk_at dksX2_whenHere_0 21 rfl rfl)
theorem dX2_whenHere_24 : decode cX2_whenHere 24 = .ok (.iconst 1, 1) := dk_4 (dk_at dksX2_whenHere_1 0 rfl rfl)
theorem dX2_whenHere_25 : decode cX2_whenHere 25 = .ok (.goto 18, 3) := dk_167 0 18 (dk_at dksX2_whenHere_1 1 rfl rfl)
theorem dX2_whenHere_28 : decode cX2_whenHere 28 = .ok (.aload_n 0, 1) := dk_42 (dk_at dksX2_whenHere_1 4 rfl rfl)
theorem dX2_whenHere_29 : decode cX2_whenHere 29 = .ok (.ldc2_w 253, 3) := dk_20 0 253 (dk_at dksX2_whenHere_1 5 rfl rfl)
theorem dX2_whenHere_32 : decode cX2_whenHere 32 = .ok (.invokevirtual 187, 3) := dk_182 0 187 (dk_at dksX2_whenHere_1 8 rfl rfl)
theorem dX2_whenHere_35 : decode cX2_whenHere 35 = .ok (.ifCond .eq 7, 3) := dk_153 0 7 (dk_at dksX2_whenHere_1 11 rfl rfl)
theorem dX2_whenHere_38 : decode cX2_whenHere 38 = .ok (.iconst 2, 1) := dk_5 (dk_at dksX2_whenHere_1 14 rfl rfl)
theorem dX2_whenHere_39 : decode cX2_whenHere 39 = .ok (.goto 4, 3) := dk_167 0 4 (dk_at dksX2_whenHere_1 15 rfl rfl)
theorem dX2_whenHere_42 : decode cX2_whenHere 42 = .ok (.iconst (-1), 1) := dk_2 (dk_at dksX2_whenHere_1 18 rfl rfl)
theorem dX2_whenHere_43 : decode cX2_whenHere 43 = .ok (.istore_n 1, 1) := dk_60 (dk_at dksX2_whenHere_1 19 rfl rfl)
theorem dX2_whenHere_44 : decode cX2_whenHere 44 = .ok (.iload_n 1, 1) := dk_27 (dk_at dksX2_whenHere_1 20 rfl rfl)
theorem dX2_whenHere_45 : decode cX2_whenHere 45 = .ok (.ifCond .ge 10, 3) := dk_156 0 10 (dk_at dksX2_whenHere_1 21 rfl rfl)
theorem dX2_whenHere_48 : decode cX2_whenHere 48 = .ok (.aload_n 0, 1) := dk_42 (dk_at dksX2_whenHere_2 0 rfl rfl)
theorem dX2_whenHere_49 : decode cX2_whenHere 49 = .ok (.invokevirtual 194, 3) := dk_182 0 194 (dk_at dksX2_whenHere_2 1 rfl rfl)
theorem dX2_whenHere_52 : decode cX2_whenHere 52 = .ok (.goto 7, 3) := dk_167 0 7 (dk_at dksX2_whenHere_2 4 rfl rfl)
theorem dX2_whenHere_55 : decode cX2_whenHere 55 = .ok (.aload_n 0, 1) := dk_42 (dk_at dksX2_whenHere_2 7 rfl rfl)
theorem dX2_whenHere_56 : decode cX2_whenHere 56 = .ok (.invokevirtual 191, 3) := dk_182 0 191 (dk_at dksX2_whenHere_2 8 rfl rfl)
theorem dX2_whenHere_59 : decode cX2_whenHere 59 = .ok (.iload_n 1, 1) := dk_27 (dk_at dksX2_whenHere_2 11 rfl rfl)
theorem dX2_whenHere_60 : decode cX2_whenHere 60 = .ok (.ireturn, 1) := dk_172 (dk_at dksX2_whenHere_2 12 rfl rfl)
abbrev cX2_clause : ByteArray := prog_23_method_33_code
def yX2_clause : MethodName := ⟨RX2, "clause", "(I)I"⟩
def dkwX2_clause_3 : List UInt8 := [3, 92, 46, 4, 96, 79, 42, 180, 0, 16, 3, 46, 4, 100, 172]
abbrev dktX2_clause_3 : List UInt8 := dkwX2_clause_3 ++ []
def dkwX2_clause_2 : List UInt8 := [16, 112, 16, 14, 42, 180, 0, 16, 3, 46, 104, 96, 182, 1, 86, 154, 0, 5, 2, 172, 42, 180, 0, 16]
abbrev dktX2_clause_2 : List UInt8 := dkwX2_clause_2 ++ dktX2_clause_3
def dkwX2_clause_1 : List UInt8 := [160, 0, 6, 16, 253, 172, 42, 27, 182, 1, 37, 42, 180, 0, 173, 154, 0, 7, 42, 182, 0, 194, 42]
abbrev dktX2_clause_1 : List UInt8 := dkwX2_clause_1 ++ dktX2_clause_2
def dkwX2_clause_0 : List UInt8 := [27, 155, 0, 11, 27, 42, 180, 0, 148, 164, 0, 6, 16, 254, 172, 42, 180, 0, 16, 3, 46, 16, 6]
abbrev dktX2_clause_0 : List UInt8 := dkwX2_clause_0 ++ dktX2_clause_1
theorem dksX2_clause_0 : cX2_clause.data.toList.drop 0 = dktX2_clause_0 := by decide +kernel
theorem dksX2_clause_1 : cX2_clause.data.toList.drop 23 = dktX2_clause_1 := dk_seg dksX2_clause_0 23 rfl rfl
theorem dksX2_clause_2 : cX2_clause.data.toList.drop 46 = dktX2_clause_2 := dk_seg dksX2_clause_1 23 rfl rfl
theorem dksX2_clause_3 : cX2_clause.data.toList.drop 70 = dktX2_clause_3 := dk_seg dksX2_clause_2 24 rfl rfl
theorem dX2_clause_0 : decode cX2_clause 0 = .ok (.iload_n 1, 1) := dk_27 (dk_at dksX2_clause_0 0 rfl rfl)
theorem dX2_clause_1 : decode cX2_clause 1 = .ok (.ifCond .lt 11, 3) := dk_155 0 11 (dk_at dksX2_clause_0 1 rfl rfl)
theorem dX2_clause_4 : decode cX2_clause 4 = .ok (.iload_n 1, 1) := dk_27 (dk_at dksX2_clause_0 4 rfl rfl)
theorem dX2_clause_5 : decode cX2_clause 5 = .ok (.aload_n 0, 1) := dk_42 (dk_at dksX2_clause_0 5 rfl rfl)
theorem dX2_clause_6 : decode cX2_clause 6 = .ok (.getfield 148, 3) := dk_180 0 148 (dk_at dksX2_clause_0 6 rfl rfl)
theorem dX2_clause_9 : decode cX2_clause 9 = .ok (.if_icmp .le 6, 3) := dk_164 0 6 (dk_at dksX2_clause_0 9 rfl rfl)
theorem dX2_clause_12 : decode cX2_clause 12 = .ok (.bipush (-2), 2) := dk_16 254 (dk_at dksX2_clause_0 12 rfl rfl)
theorem dX2_clause_14 : decode cX2_clause 14 = .ok (.ireturn, 1) := dk_172 (dk_at dksX2_clause_0 14 rfl rfl)
theorem dX2_clause_15 : decode cX2_clause 15 = .ok (.aload_n 0, 1) := dk_42 (dk_at dksX2_clause_0 15 rfl rfl)
theorem dX2_clause_16 : decode cX2_clause 16 = .ok (.getfield 16, 3) := dk_180 0 16 (dk_at dksX2_clause_0 16 rfl rfl)
theorem dX2_clause_19 : decode cX2_clause 19 = .ok (.iconst 0, 1) := dk_3 (dk_at dksX2_clause_0 19 rfl rfl)
theorem dX2_clause_20 : decode cX2_clause 20 = .ok (.iaload, 1) := dk_46 (dk_at dksX2_clause_0 20 rfl rfl)
theorem dX2_clause_21 : decode cX2_clause 21 = .ok (.bipush 6, 2) := dk_16 6 (dk_at dksX2_clause_0 21 rfl rfl)
theorem dX2_clause_23 : decode cX2_clause 23 = .ok (.if_icmp .ne 6, 3) := dk_160 0 6 (dk_at dksX2_clause_1 0 rfl rfl)
theorem dX2_clause_26 : decode cX2_clause 26 = .ok (.bipush (-3), 2) := dk_16 253 (dk_at dksX2_clause_1 3 rfl rfl)
theorem dX2_clause_28 : decode cX2_clause 28 = .ok (.ireturn, 1) := dk_172 (dk_at dksX2_clause_1 5 rfl rfl)
theorem dX2_clause_29 : decode cX2_clause 29 = .ok (.aload_n 0, 1) := dk_42 (dk_at dksX2_clause_1 6 rfl rfl)
theorem dX2_clause_30 : decode cX2_clause 30 = .ok (.iload_n 1, 1) := dk_27 (dk_at dksX2_clause_1 7 rfl rfl)
theorem dX2_clause_31 : decode cX2_clause 31 = .ok (.invokevirtual 293, 3) := dk_182 1 37 (dk_at dksX2_clause_1 8 rfl rfl)
theorem dX2_clause_34 : decode cX2_clause 34 = .ok (.aload_n 0, 1) := dk_42 (dk_at dksX2_clause_1 11 rfl rfl)
theorem dX2_clause_35 : decode cX2_clause 35 = .ok (.getfield 173, 3) := dk_180 0 173 (dk_at dksX2_clause_1 12 rfl rfl)
theorem dX2_clause_38 : decode cX2_clause 38 = .ok (.ifCond .ne 7, 3) := dk_154 0 7 (dk_at dksX2_clause_1 15 rfl rfl)
theorem dX2_clause_41 : decode cX2_clause 41 = .ok (.aload_n 0, 1) := dk_42 (dk_at dksX2_clause_1 18 rfl rfl)
theorem dX2_clause_42 : decode cX2_clause 42 = .ok (.invokevirtual 194, 3) := dk_182 0 194 (dk_at dksX2_clause_1 19 rfl rfl)
theorem dX2_clause_45 : decode cX2_clause 45 = .ok (.aload_n 0, 1) := dk_42 (dk_at dksX2_clause_1 22 rfl rfl)
theorem dX2_clause_46 : decode cX2_clause 46 = .ok (.bipush 112, 2) := dk_16 112 (dk_at dksX2_clause_2 0 rfl rfl)
theorem dX2_clause_48 : decode cX2_clause 48 = .ok (.bipush 14, 2) := dk_16 14 (dk_at dksX2_clause_2 2 rfl rfl)
theorem dX2_clause_50 : decode cX2_clause 50 = .ok (.aload_n 0, 1) := dk_42 (dk_at dksX2_clause_2 4 rfl rfl)
theorem dX2_clause_51 : decode cX2_clause 51 = .ok (.getfield 16, 3) := dk_180 0 16 (dk_at dksX2_clause_2 5 rfl rfl)
theorem dX2_clause_54 : decode cX2_clause 54 = .ok (.iconst 0, 1) := dk_3 (dk_at dksX2_clause_2 8 rfl rfl)
theorem dX2_clause_55 : decode cX2_clause 55 = .ok (.iaload, 1) := dk_46 (dk_at dksX2_clause_2 9 rfl rfl)
theorem dX2_clause_56 : decode cX2_clause 56 = .ok (.imul, 1) := dk_104 (dk_at dksX2_clause_2 10 rfl rfl)
theorem dX2_clause_57 : decode cX2_clause 57 = .ok (.iadd, 1) := dk_96 (dk_at dksX2_clause_2 11 rfl rfl)
theorem dX2_clause_58 : decode cX2_clause 58 = .ok (.invokevirtual 342, 3) := dk_182 1 86 (dk_at dksX2_clause_2 12 rfl rfl)
theorem dX2_clause_61 : decode cX2_clause 61 = .ok (.ifCond .ne 5, 3) := dk_154 0 5 (dk_at dksX2_clause_2 15 rfl rfl)
theorem dX2_clause_64 : decode cX2_clause 64 = .ok (.iconst (-1), 1) := dk_2 (dk_at dksX2_clause_2 18 rfl rfl)
theorem dX2_clause_65 : decode cX2_clause 65 = .ok (.ireturn, 1) := dk_172 (dk_at dksX2_clause_2 19 rfl rfl)
theorem dX2_clause_66 : decode cX2_clause 66 = .ok (.aload_n 0, 1) := dk_42 (dk_at dksX2_clause_2 20 rfl rfl)
theorem dX2_clause_67 : decode cX2_clause 67 = .ok (.getfield 16, 3) := dk_180 0 16 (dk_at dksX2_clause_2 21 rfl rfl)
theorem dX2_clause_70 : decode cX2_clause 70 = .ok (.iconst 0, 1) := dk_3 (dk_at dksX2_clause_3 0 rfl rfl)
theorem dX2_clause_71 : decode cX2_clause 71 = .ok (.dup2, 1) := dk_92 (dk_at dksX2_clause_3 1 rfl rfl)
theorem dX2_clause_72 : decode cX2_clause 72 = .ok (.iaload, 1) := dk_46 (dk_at dksX2_clause_3 2 rfl rfl)
theorem dX2_clause_73 : decode cX2_clause 73 = .ok (.iconst 1, 1) := dk_4 (dk_at dksX2_clause_3 3 rfl rfl)
theorem dX2_clause_74 : decode cX2_clause 74 = .ok (.iadd, 1) := dk_96 (dk_at dksX2_clause_3 4 rfl rfl)
theorem dX2_clause_75 : decode cX2_clause 75 = .ok (.iastore, 1) := dk_79 (dk_at dksX2_clause_3 5 rfl rfl)
theorem dX2_clause_76 : decode cX2_clause 76 = .ok (.aload_n 0, 1) := dk_42 (dk_at dksX2_clause_3 6 rfl rfl)
theorem dX2_clause_77 : decode cX2_clause 77 = .ok (.getfield 16, 3) := dk_180 0 16 (dk_at dksX2_clause_3 7 rfl rfl)
theorem dX2_clause_80 : decode cX2_clause 80 = .ok (.iconst 0, 1) := dk_3 (dk_at dksX2_clause_3 10 rfl rfl)
theorem dX2_clause_81 : decode cX2_clause 81 = .ok (.iaload, 1) := dk_46 (dk_at dksX2_clause_3 11 rfl rfl)
theorem dX2_clause_82 : decode cX2_clause 82 = .ok (.iconst 1, 1) := dk_4 (dk_at dksX2_clause_3 12 rfl rfl)
theorem dX2_clause_83 : decode cX2_clause 83 = .ok (.isub, 1) := dk_100 (dk_at dksX2_clause_3 13 rfl rfl)
theorem dX2_clause_84 : decode cX2_clause 84 = .ok (.ireturn, 1) := dk_172 (dk_at dksX2_clause_3 14 rfl rfl)
abbrev cX2_fault : ByteArray := prog_23_method_34_code
def yX2_fault : MethodName := ⟨RX2, "fault", "()I"⟩
theorem dX2_fault_0 : decode cX2_fault 0 = .ok (.aload_n 0, 1) := by decide +kernel
theorem dX2_fault_1 : decode cX2_fault 1 = .ok (.getfield 62, 3) := by decide +kernel
theorem dX2_fault_4 : decode cX2_fault 4 = .ok (.ireturn, 1) := by decide +kernel
abbrev cX2_rule : ByteArray := prog_23_method_36_code
def yX2_rule : MethodName := ⟨RX2, "rule", "(II)I"⟩
def dkwX2_rule_2 : List UInt8 := [180, 0, 66, 28, 46, 172]
abbrev dktX2_rule_2 : List UInt8 := dkwX2_rule_2 ++ []
def dkwX2_rule_1 : List UInt8 := [160, 0, 16, 42, 180, 0, 55, 16, 14, 27, 104, 16, 13, 96, 46, 172, 42, 27, 3, 182, 1, 92, 42]
abbrev dktX2_rule_1 : List UInt8 := dkwX2_rule_1 ++ dktX2_rule_2
def dkwX2_rule_0 : List UInt8 := [42, 27, 182, 1, 89, 153, 0, 13, 28, 3, 16, 13, 184, 0, 176, 154, 0, 6, 16, 254, 172, 28, 16, 13]
abbrev dktX2_rule_0 : List UInt8 := dkwX2_rule_0 ++ dktX2_rule_1
theorem dksX2_rule_0 : cX2_rule.data.toList.drop 0 = dktX2_rule_0 := by decide +kernel
theorem dksX2_rule_1 : cX2_rule.data.toList.drop 24 = dktX2_rule_1 := dk_seg dksX2_rule_0 24 rfl rfl
theorem dksX2_rule_2 : cX2_rule.data.toList.drop 47 = dktX2_rule_2 := dk_seg dksX2_rule_1 23 rfl rfl
theorem dX2_rule_0 : decode cX2_rule 0 = .ok (.aload_n 0, 1) := dk_42 (dk_at dksX2_rule_0 0 rfl rfl)
theorem dX2_rule_1 : decode cX2_rule 1 = .ok (.iload_n 1, 1) := dk_27 (dk_at dksX2_rule_0 1 rfl rfl)
theorem dX2_rule_2 : decode cX2_rule 2 = .ok (.invokevirtual 345, 3) := dk_182 1 89 (dk_at dksX2_rule_0 2 rfl rfl)
theorem dX2_rule_5 : decode cX2_rule 5 = .ok (.ifCond .eq 13, 3) := dk_153 0 13 (dk_at dksX2_rule_0 5 rfl rfl)
theorem dX2_rule_8 : decode cX2_rule 8 = .ok (.iload_n 2, 1) := dk_28 (dk_at dksX2_rule_0 8 rfl rfl)
theorem dX2_rule_9 : decode cX2_rule 9 = .ok (.iconst 0, 1) := dk_3 (dk_at dksX2_rule_0 9 rfl rfl)
theorem dX2_rule_10 : decode cX2_rule 10 = .ok (.bipush 13, 2) := dk_16 13 (dk_at dksX2_rule_0 10 rfl rfl)
theorem dX2_rule_12 : decode cX2_rule 12 = .ok (.invokestatic 176, 3) := dk_184 0 176 (dk_at dksX2_rule_0 12 rfl rfl)
theorem dX2_rule_15 : decode cX2_rule 15 = .ok (.ifCond .ne 6, 3) := dk_154 0 6 (dk_at dksX2_rule_0 15 rfl rfl)
theorem dX2_rule_18 : decode cX2_rule 18 = .ok (.bipush (-2), 2) := dk_16 254 (dk_at dksX2_rule_0 18 rfl rfl)
theorem dX2_rule_20 : decode cX2_rule 20 = .ok (.ireturn, 1) := dk_172 (dk_at dksX2_rule_0 20 rfl rfl)
theorem dX2_rule_21 : decode cX2_rule 21 = .ok (.iload_n 2, 1) := dk_28 (dk_at dksX2_rule_0 21 rfl rfl)
theorem dX2_rule_22 : decode cX2_rule 22 = .ok (.bipush 13, 2) := dk_16 13 (dk_at dksX2_rule_0 22 rfl rfl)
theorem dX2_rule_24 : decode cX2_rule 24 = .ok (.if_icmp .ne 16, 3) := dk_160 0 16 (dk_at dksX2_rule_1 0 rfl rfl)
theorem dX2_rule_27 : decode cX2_rule 27 = .ok (.aload_n 0, 1) := dk_42 (dk_at dksX2_rule_1 3 rfl rfl)
theorem dX2_rule_28 : decode cX2_rule 28 = .ok (.getfield 55, 3) := dk_180 0 55 (dk_at dksX2_rule_1 4 rfl rfl)
theorem dX2_rule_31 : decode cX2_rule 31 = .ok (.bipush 14, 2) := dk_16 14 (dk_at dksX2_rule_1 7 rfl rfl)
theorem dX2_rule_33 : decode cX2_rule 33 = .ok (.iload_n 1, 1) := dk_27 (dk_at dksX2_rule_1 9 rfl rfl)
theorem dX2_rule_34 : decode cX2_rule 34 = .ok (.imul, 1) := dk_104 (dk_at dksX2_rule_1 10 rfl rfl)
theorem dX2_rule_35 : decode cX2_rule 35 = .ok (.bipush 13, 2) := dk_16 13 (dk_at dksX2_rule_1 11 rfl rfl)
theorem dX2_rule_37 : decode cX2_rule 37 = .ok (.iadd, 1) := dk_96 (dk_at dksX2_rule_1 13 rfl rfl)
theorem dX2_rule_38 : decode cX2_rule 38 = .ok (.iaload, 1) := dk_46 (dk_at dksX2_rule_1 14 rfl rfl)
theorem dX2_rule_39 : decode cX2_rule 39 = .ok (.ireturn, 1) := dk_172 (dk_at dksX2_rule_1 15 rfl rfl)
theorem dX2_rule_40 : decode cX2_rule 40 = .ok (.aload_n 0, 1) := dk_42 (dk_at dksX2_rule_1 16 rfl rfl)
theorem dX2_rule_41 : decode cX2_rule 41 = .ok (.iload_n 1, 1) := dk_27 (dk_at dksX2_rule_1 17 rfl rfl)
theorem dX2_rule_42 : decode cX2_rule 42 = .ok (.iconst 0, 1) := dk_3 (dk_at dksX2_rule_1 18 rfl rfl)
theorem dX2_rule_43 : decode cX2_rule 43 = .ok (.invokevirtual 348, 3) := dk_182 1 92 (dk_at dksX2_rule_1 19 rfl rfl)
theorem dX2_rule_46 : decode cX2_rule 46 = .ok (.aload_n 0, 1) := dk_42 (dk_at dksX2_rule_1 22 rfl rfl)
theorem dX2_rule_47 : decode cX2_rule 47 = .ok (.getfield 66, 3) := dk_180 0 66 (dk_at dksX2_rule_2 0 rfl rfl)
theorem dX2_rule_50 : decode cX2_rule 50 = .ok (.iload_n 2, 1) := dk_28 (dk_at dksX2_rule_2 3 rfl rfl)
theorem dX2_rule_51 : decode cX2_rule 51 = .ok (.iaload, 1) := dk_46 (dk_at dksX2_rule_2 4 rfl rfl)
theorem dX2_rule_52 : decode cX2_rule 52 = .ok (.ireturn, 1) := dk_172 (dk_at dksX2_rule_2 5 rfl rfl)
abbrev cX2_isLaw : ByteArray := prog_23_method_26_code
def yX2_isLaw : MethodName := ⟨RX2, "isLaw", "(I)Z"⟩
def dkwX2_isLaw_0 : List UInt8 := [27, 155, 0, 17, 27, 42, 180, 0, 13, 3, 46, 162, 0, 7, 4, 167, 0, 4, 3, 172]
abbrev dktX2_isLaw_0 : List UInt8 := dkwX2_isLaw_0 ++ []
theorem dksX2_isLaw_0 : cX2_isLaw.data.toList.drop 0 = dktX2_isLaw_0 := by decide +kernel
theorem dX2_isLaw_0 : decode cX2_isLaw 0 = .ok (.iload_n 1, 1) := dk_27 (dk_at dksX2_isLaw_0 0 rfl rfl)
theorem dX2_isLaw_1 : decode cX2_isLaw 1 = .ok (.ifCond .lt 17, 3) := dk_155 0 17 (dk_at dksX2_isLaw_0 1 rfl rfl)
theorem dX2_isLaw_4 : decode cX2_isLaw 4 = .ok (.iload_n 1, 1) := dk_27 (dk_at dksX2_isLaw_0 4 rfl rfl)
theorem dX2_isLaw_5 : decode cX2_isLaw 5 = .ok (.aload_n 0, 1) := dk_42 (dk_at dksX2_isLaw_0 5 rfl rfl)
theorem dX2_isLaw_6 : decode cX2_isLaw 6 = .ok (.getfield 13, 3) := dk_180 0 13 (dk_at dksX2_isLaw_0 6 rfl rfl)
theorem dX2_isLaw_9 : decode cX2_isLaw 9 = .ok (.iconst 0, 1) := dk_3 (dk_at dksX2_isLaw_0 9 rfl rfl)
theorem dX2_isLaw_10 : decode cX2_isLaw 10 = .ok (.iaload, 1) := dk_46 (dk_at dksX2_isLaw_0 10 rfl rfl)
theorem dX2_isLaw_11 : decode cX2_isLaw 11 = .ok (.if_icmp .ge 7, 3) := dk_162 0 7 (dk_at dksX2_isLaw_0 11 rfl rfl)
theorem dX2_isLaw_14 : decode cX2_isLaw 14 = .ok (.iconst 1, 1) := dk_4 (dk_at dksX2_isLaw_0 14 rfl rfl)
theorem dX2_isLaw_15 : decode cX2_isLaw 15 = .ok (.goto 4, 3) := dk_167 0 4 (dk_at dksX2_isLaw_0 15 rfl rfl)
theorem dX2_isLaw_18 : decode cX2_isLaw 18 = .ok (.iconst 0, 1) := dk_3 (dk_at dksX2_isLaw_0 18 rfl rfl)
theorem dX2_isLaw_19 : decode cX2_isLaw 19 = .ok (.ireturn, 1) := dk_172 (dk_at dksX2_isLaw_0 19 rfl rfl)
abbrev cX2_lays : ByteArray := prog_23_method_35_code
def yX2_lays : MethodName := ⟨RX2, "lays", "(II)V"⟩
def dkwX2_lays_7 : List UInt8 := [79, 132, 4, 1, 167, 255, 195, 132, 3, 1, 167, 255, 176, 177]
abbrev dktX2_lays_7 : List UInt8 := dkwX2_lays_7 ++ []
def dkwX2_lays_6 : List UInt8 := [159, 0, 25, 42, 180, 0, 66, 21, 4, 42, 180, 0, 55, 16, 112, 16, 14, 29, 104, 96, 21, 4, 96, 46]
abbrev dktX2_lays_6 : List UInt8 := dkwX2_lays_6 ++ dktX2_lays_7
def dkwX2_lays_5 : List UInt8 := [126, 4, 160, 0, 45, 42, 180, 0, 55, 16, 112, 16, 14, 29, 104, 96, 21, 4, 96, 46, 16, 254]
abbrev dktX2_lays_5 : List UInt8 := dkwX2_lays_5 ++ dktX2_lays_6
def dkwX2_lays_4 : List UInt8 := [29, 42, 180, 0, 16, 3, 46, 162, 0, 76, 3, 54, 4, 21, 4, 16, 13, 162, 0, 60, 28, 29, 122, 4]
abbrev dktX2_lays_4 : List UInt8 := dkwX2_lays_4 ++ dktX2_lays_5
def dkwX2_lays_3 : List UInt8 := [180, 0, 66, 29, 42, 180, 0, 55, 16, 14, 27, 104, 29, 96, 46, 79, 132, 3, 1, 167, 255, 214, 3, 62]
abbrev dktX2_lays_3 : List UInt8 := dkwX2_lays_3 ++ dktX2_lays_4
def dkwX2_lays_2 : List UInt8 := [29, 16, 13, 162, 0, 42, 42, 180, 0, 55, 16, 14, 27, 104, 29, 96, 46, 16, 254, 159, 0, 20, 42]
abbrev dktX2_lays_2 : List UInt8 := dkwX2_lays_2 ++ dktX2_lays_3
def dkwX2_lays_1 : List UInt8 := [16, 7, 16, 8, 184, 0, 176, 153, 0, 7, 2, 167, 0, 4, 3, 79, 132, 3, 1, 167, 255, 215, 3, 62]
abbrev dktX2_lays_1 : List UInt8 := dkwX2_lays_1 ++ dktX2_lays_2
def dkwX2_lays_0 : List UInt8 := [3, 62, 29, 16, 13, 162, 0, 41, 42, 180, 0, 66, 29, 29, 16, 6, 162, 0, 7, 4, 167, 0, 19, 29]
abbrev dktX2_lays_0 : List UInt8 := dkwX2_lays_0 ++ dktX2_lays_1
theorem dksX2_lays_0 : cX2_lays.data.toList.drop 0 = dktX2_lays_0 := by decide +kernel
theorem dksX2_lays_1 : cX2_lays.data.toList.drop 24 = dktX2_lays_1 := dk_seg dksX2_lays_0 24 rfl rfl
theorem dksX2_lays_2 : cX2_lays.data.toList.drop 48 = dktX2_lays_2 := dk_seg dksX2_lays_1 24 rfl rfl
theorem dksX2_lays_3 : cX2_lays.data.toList.drop 71 = dktX2_lays_3 := dk_seg dksX2_lays_2 23 rfl rfl
theorem dksX2_lays_4 : cX2_lays.data.toList.drop 95 = dktX2_lays_4 := dk_seg dksX2_lays_3 24 rfl rfl
theorem dksX2_lays_5 : cX2_lays.data.toList.drop 119 = dktX2_lays_5 := dk_seg dksX2_lays_4 24 rfl rfl
theorem dksX2_lays_6 : cX2_lays.data.toList.drop 141 = dktX2_lays_6 := dk_seg dksX2_lays_5 22 rfl rfl
theorem dksX2_lays_7 : cX2_lays.data.toList.drop 165 = dktX2_lays_7 := dk_seg dksX2_lays_6 24 rfl rfl
theorem dX2_lays_0 : decode cX2_lays 0 = .ok (.iconst 0, 1) := dk_3 (dk_at dksX2_lays_0 0 rfl rfl)
theorem dX2_lays_1 : decode cX2_lays 1 = .ok (.istore_n 3, 1) := dk_62 (dk_at dksX2_lays_0 1 rfl rfl)
theorem dX2_lays_2 : decode cX2_lays 2 = .ok (.iload_n 3, 1) := dk_29 (dk_at dksX2_lays_0 2 rfl rfl)
theorem dX2_lays_3 : decode cX2_lays 3 = .ok (.bipush 13, 2) := dk_16 13 (dk_at dksX2_lays_0 3 rfl rfl)
theorem dX2_lays_5 : decode cX2_lays 5 = .ok (.if_icmp .ge 41, 3) := dk_162 0 41 (dk_at dksX2_lays_0 5 rfl rfl)
theorem dX2_lays_8 : decode cX2_lays 8 = .ok (.aload_n 0, 1) := dk_42 (dk_at dksX2_lays_0 8 rfl rfl)
theorem dX2_lays_9 : decode cX2_lays 9 = .ok (.getfield 66, 3) := dk_180 0 66 (dk_at dksX2_lays_0 9 rfl rfl)
theorem dX2_lays_12 : decode cX2_lays 12 = .ok (.iload_n 3, 1) := dk_29 (dk_at dksX2_lays_0 12 rfl rfl)
theorem dX2_lays_13 : decode cX2_lays 13 = .ok (.iload_n 3, 1) := dk_29 (dk_at dksX2_lays_0 13 rfl rfl)
theorem dX2_lays_14 : decode cX2_lays 14 = .ok (.bipush 6, 2) := dk_16 6 (dk_at dksX2_lays_0 14 rfl rfl)
theorem dX2_lays_16 : decode cX2_lays 16 = .ok (.if_icmp .ge 7, 3) := dk_162 0 7 (dk_at dksX2_lays_0 16 rfl rfl)
theorem dX2_lays_19 : decode cX2_lays 19 = .ok (.iconst 1, 1) := dk_4 (dk_at dksX2_lays_0 19 rfl rfl)
theorem dX2_lays_20 : decode cX2_lays 20 = .ok (.goto 19, 3) := dk_167 0 19 (dk_at dksX2_lays_0 20 rfl rfl)
theorem dX2_lays_23 : decode cX2_lays 23 = .ok (.iload_n 3, 1) := dk_29 (dk_at dksX2_lays_0 23 rfl rfl)
theorem dX2_lays_24 : decode cX2_lays 24 = .ok (.bipush 7, 2) := dk_16 7 (dk_at dksX2_lays_1 0 rfl rfl)
theorem dX2_lays_26 : decode cX2_lays 26 = .ok (.bipush 8, 2) := dk_16 8 (dk_at dksX2_lays_1 2 rfl rfl)
theorem dX2_lays_28 : decode cX2_lays 28 = .ok (.invokestatic 176, 3) := dk_184 0 176 (dk_at dksX2_lays_1 4 rfl rfl)
theorem dX2_lays_31 : decode cX2_lays 31 = .ok (.ifCond .eq 7, 3) := dk_153 0 7 (dk_at dksX2_lays_1 7 rfl rfl)
theorem dX2_lays_34 : decode cX2_lays 34 = .ok (.iconst (-1), 1) := dk_2 (dk_at dksX2_lays_1 10 rfl rfl)
theorem dX2_lays_35 : decode cX2_lays 35 = .ok (.goto 4, 3) := dk_167 0 4 (dk_at dksX2_lays_1 11 rfl rfl)
theorem dX2_lays_38 : decode cX2_lays 38 = .ok (.iconst 0, 1) := dk_3 (dk_at dksX2_lays_1 14 rfl rfl)
theorem dX2_lays_39 : decode cX2_lays 39 = .ok (.iastore, 1) := dk_79 (dk_at dksX2_lays_1 15 rfl rfl)
theorem dX2_lays_40 : decode cX2_lays 40 = .ok (.iinc 3 1, 3) := dk_132 3 1 (dk_at dksX2_lays_1 16 rfl rfl)
theorem dX2_lays_43 : decode cX2_lays 43 = .ok (.goto (-41), 3) := dk_167 255 215 (dk_at dksX2_lays_1 19 rfl rfl)
theorem dX2_lays_46 : decode cX2_lays 46 = .ok (.iconst 0, 1) := dk_3 (dk_at dksX2_lays_1 22 rfl rfl)
theorem dX2_lays_47 : decode cX2_lays 47 = .ok (.istore_n 3, 1) := dk_62 (dk_at dksX2_lays_1 23 rfl rfl)
theorem dX2_lays_48 : decode cX2_lays 48 = .ok (.iload_n 3, 1) := dk_29 (dk_at dksX2_lays_2 0 rfl rfl)
theorem dX2_lays_49 : decode cX2_lays 49 = .ok (.bipush 13, 2) := dk_16 13 (dk_at dksX2_lays_2 1 rfl rfl)
theorem dX2_lays_51 : decode cX2_lays 51 = .ok (.if_icmp .ge 42, 3) := dk_162 0 42 (dk_at dksX2_lays_2 3 rfl rfl)
theorem dX2_lays_54 : decode cX2_lays 54 = .ok (.aload_n 0, 1) := dk_42 (dk_at dksX2_lays_2 6 rfl rfl)
theorem dX2_lays_55 : decode cX2_lays 55 = .ok (.getfield 55, 3) := dk_180 0 55 (dk_at dksX2_lays_2 7 rfl rfl)
theorem dX2_lays_58 : decode cX2_lays 58 = .ok (.bipush 14, 2) := dk_16 14 (dk_at dksX2_lays_2 10 rfl rfl)
theorem dX2_lays_60 : decode cX2_lays 60 = .ok (.iload_n 1, 1) := dk_27 (dk_at dksX2_lays_2 12 rfl rfl)
theorem dX2_lays_61 : decode cX2_lays 61 = .ok (.imul, 1) := dk_104 (dk_at dksX2_lays_2 13 rfl rfl)
theorem dX2_lays_62 : decode cX2_lays 62 = .ok (.iload_n 3, 1) := dk_29 (dk_at dksX2_lays_2 14 rfl rfl)
theorem dX2_lays_63 : decode cX2_lays 63 = .ok (.iadd, 1) := dk_96 (dk_at dksX2_lays_2 15 rfl rfl)
theorem dX2_lays_64 : decode cX2_lays 64 = .ok (.iaload, 1) := dk_46 (dk_at dksX2_lays_2 16 rfl rfl)
theorem dX2_lays_65 : decode cX2_lays 65 = .ok (.bipush (-2), 2) := dk_16 254 (dk_at dksX2_lays_2 17 rfl rfl)
theorem dX2_lays_67 : decode cX2_lays 67 = .ok (.if_icmp .eq 20, 3) := dk_159 0 20 (dk_at dksX2_lays_2 19 rfl rfl)
theorem dX2_lays_70 : decode cX2_lays 70 = .ok (.aload_n 0, 1) := dk_42 (dk_at dksX2_lays_2 22 rfl rfl)
theorem dX2_lays_71 : decode cX2_lays 71 = .ok (.getfield 66, 3) := dk_180 0 66 (dk_at dksX2_lays_3 0 rfl rfl)
theorem dX2_lays_74 : decode cX2_lays 74 = .ok (.iload_n 3, 1) := dk_29 (dk_at dksX2_lays_3 3 rfl rfl)
theorem dX2_lays_75 : decode cX2_lays 75 = .ok (.aload_n 0, 1) := dk_42 (dk_at dksX2_lays_3 4 rfl rfl)
theorem dX2_lays_76 : decode cX2_lays 76 = .ok (.getfield 55, 3) := dk_180 0 55 (dk_at dksX2_lays_3 5 rfl rfl)
theorem dX2_lays_79 : decode cX2_lays 79 = .ok (.bipush 14, 2) := dk_16 14 (dk_at dksX2_lays_3 8 rfl rfl)
theorem dX2_lays_81 : decode cX2_lays 81 = .ok (.iload_n 1, 1) := dk_27 (dk_at dksX2_lays_3 10 rfl rfl)
theorem dX2_lays_82 : decode cX2_lays 82 = .ok (.imul, 1) := dk_104 (dk_at dksX2_lays_3 11 rfl rfl)
theorem dX2_lays_83 : decode cX2_lays 83 = .ok (.iload_n 3, 1) := dk_29 (dk_at dksX2_lays_3 12 rfl rfl)
theorem dX2_lays_84 : decode cX2_lays 84 = .ok (.iadd, 1) := dk_96 (dk_at dksX2_lays_3 13 rfl rfl)
theorem dX2_lays_85 : decode cX2_lays 85 = .ok (.iaload, 1) := dk_46 (dk_at dksX2_lays_3 14 rfl rfl)
theorem dX2_lays_86 : decode cX2_lays 86 = .ok (.iastore, 1) := dk_79 (dk_at dksX2_lays_3 15 rfl rfl)
theorem dX2_lays_87 : decode cX2_lays 87 = .ok (.iinc 3 1, 3) := dk_132 3 1 (dk_at dksX2_lays_3 16 rfl rfl)
theorem dX2_lays_90 : decode cX2_lays 90 = .ok (.goto (-42), 3) := dk_167 255 214 (dk_at dksX2_lays_3 19 rfl rfl)
theorem dX2_lays_93 : decode cX2_lays 93 = .ok (.iconst 0, 1) := dk_3 (dk_at dksX2_lays_3 22 rfl rfl)
theorem dX2_lays_94 : decode cX2_lays 94 = .ok (.istore_n 3, 1) := dk_62 (dk_at dksX2_lays_3 23 rfl rfl)
theorem dX2_lays_95 : decode cX2_lays 95 = .ok (.iload_n 3, 1) := dk_29 (dk_at dksX2_lays_4 0 rfl rfl)
theorem dX2_lays_96 : decode cX2_lays 96 = .ok (.aload_n 0, 1) := dk_42 (dk_at dksX2_lays_4 1 rfl rfl)
theorem dX2_lays_97 : decode cX2_lays 97 = .ok (.getfield 16, 3) := dk_180 0 16 (dk_at dksX2_lays_4 2 rfl rfl)
theorem dX2_lays_100 : decode cX2_lays 100 = .ok (.iconst 0, 1) := dk_3 (dk_at dksX2_lays_4 5 rfl rfl)
theorem dX2_lays_101 : decode cX2_lays 101 = .ok (.iaload, 1) := dk_46 (dk_at dksX2_lays_4 6 rfl rfl)
theorem dX2_lays_102 : decode cX2_lays 102 = .ok (.if_icmp .ge 76, 3) := dk_162 0 76 (dk_at dksX2_lays_4 7 rfl rfl)
theorem dX2_lays_105 : decode cX2_lays 105 = .ok (.iconst 0, 1) := dk_3 (dk_at dksX2_lays_4 10 rfl rfl)
theorem dX2_lays_106 : decode cX2_lays 106 = .ok (.istore 4, 2) := dk_54 4 (dk_at dksX2_lays_4 11 rfl rfl)
theorem dX2_lays_108 : decode cX2_lays 108 = .ok (.iload 4, 2) := dk_21 4 (dk_at dksX2_lays_4 13 rfl rfl)
theorem dX2_lays_110 : decode cX2_lays 110 = .ok (.bipush 13, 2) := dk_16 13 (dk_at dksX2_lays_4 15 rfl rfl)
theorem dX2_lays_112 : decode cX2_lays 112 = .ok (.if_icmp .ge 60, 3) := dk_162 0 60 (dk_at dksX2_lays_4 17 rfl rfl)
theorem dX2_lays_115 : decode cX2_lays 115 = .ok (.iload_n 2, 1) := dk_28 (dk_at dksX2_lays_4 20 rfl rfl)
theorem dX2_lays_116 : decode cX2_lays 116 = .ok (.iload_n 3, 1) := dk_29 (dk_at dksX2_lays_4 21 rfl rfl)
theorem dX2_lays_117 : decode cX2_lays 117 = .ok (.ishr, 1) := dk_122 (dk_at dksX2_lays_4 22 rfl rfl)
theorem dX2_lays_118 : decode cX2_lays 118 = .ok (.iconst 1, 1) := dk_4 (dk_at dksX2_lays_4 23 rfl rfl)
theorem dX2_lays_119 : decode cX2_lays 119 = .ok (.iand, 1) := dk_126 (dk_at dksX2_lays_5 0 rfl rfl)
theorem dX2_lays_120 : decode cX2_lays 120 = .ok (.iconst 1, 1) := dk_4 (dk_at dksX2_lays_5 1 rfl rfl)
theorem dX2_lays_121 : decode cX2_lays 121 = .ok (.if_icmp .ne 45, 3) := dk_160 0 45 (dk_at dksX2_lays_5 2 rfl rfl)
theorem dX2_lays_124 : decode cX2_lays 124 = .ok (.aload_n 0, 1) := dk_42 (dk_at dksX2_lays_5 5 rfl rfl)
theorem dX2_lays_125 : decode cX2_lays 125 = .ok (.getfield 55, 3) := dk_180 0 55 (dk_at dksX2_lays_5 6 rfl rfl)
theorem dX2_lays_128 : decode cX2_lays 128 = .ok (.bipush 112, 2) := dk_16 112 (dk_at dksX2_lays_5 9 rfl rfl)
theorem dX2_lays_130 : decode cX2_lays 130 = .ok (.bipush 14, 2) := dk_16 14 (dk_at dksX2_lays_5 11 rfl rfl)
theorem dX2_lays_132 : decode cX2_lays 132 = .ok (.iload_n 3, 1) := dk_29 (dk_at dksX2_lays_5 13 rfl rfl)
theorem dX2_lays_133 : decode cX2_lays 133 = .ok (.imul, 1) := dk_104 (dk_at dksX2_lays_5 14 rfl rfl)
theorem dX2_lays_134 : decode cX2_lays 134 = .ok (.iadd, 1) := dk_96 (dk_at dksX2_lays_5 15 rfl rfl)
theorem dX2_lays_135 : decode cX2_lays 135 = .ok (.iload 4, 2) := dk_21 4 (dk_at dksX2_lays_5 16 rfl rfl)
theorem dX2_lays_137 : decode cX2_lays 137 = .ok (.iadd, 1) := dk_96 (dk_at dksX2_lays_5 18 rfl rfl)
theorem dX2_lays_138 : decode cX2_lays 138 = .ok (.iaload, 1) := dk_46 (dk_at dksX2_lays_5 19 rfl rfl)
theorem dX2_lays_139 : decode cX2_lays 139 = .ok (.bipush (-2), 2) := dk_16 254 (dk_at dksX2_lays_5 20 rfl rfl)
theorem dX2_lays_141 : decode cX2_lays 141 = .ok (.if_icmp .eq 25, 3) := dk_159 0 25 (dk_at dksX2_lays_6 0 rfl rfl)
theorem dX2_lays_144 : decode cX2_lays 144 = .ok (.aload_n 0, 1) := dk_42 (dk_at dksX2_lays_6 3 rfl rfl)
theorem dX2_lays_145 : decode cX2_lays 145 = .ok (.getfield 66, 3) := dk_180 0 66 (dk_at dksX2_lays_6 4 rfl rfl)
theorem dX2_lays_148 : decode cX2_lays 148 = .ok (.iload 4, 2) := dk_21 4 (dk_at dksX2_lays_6 7 rfl rfl)
theorem dX2_lays_150 : decode cX2_lays 150 = .ok (.aload_n 0, 1) := dk_42 (dk_at dksX2_lays_6 9 rfl rfl)
theorem dX2_lays_151 : decode cX2_lays 151 = .ok (.getfield 55, 3) := dk_180 0 55 (dk_at dksX2_lays_6 10 rfl rfl)
theorem dX2_lays_154 : decode cX2_lays 154 = .ok (.bipush 112, 2) := dk_16 112 (dk_at dksX2_lays_6 13 rfl rfl)
theorem dX2_lays_156 : decode cX2_lays 156 = .ok (.bipush 14, 2) := dk_16 14 (dk_at dksX2_lays_6 15 rfl rfl)
theorem dX2_lays_158 : decode cX2_lays 158 = .ok (.iload_n 3, 1) := dk_29 (dk_at dksX2_lays_6 17 rfl rfl)
theorem dX2_lays_159 : decode cX2_lays 159 = .ok (.imul, 1) := dk_104 (dk_at dksX2_lays_6 18 rfl rfl)
theorem dX2_lays_160 : decode cX2_lays 160 = .ok (.iadd, 1) := dk_96 (dk_at dksX2_lays_6 19 rfl rfl)
theorem dX2_lays_161 : decode cX2_lays 161 = .ok (.iload 4, 2) := dk_21 4 (dk_at dksX2_lays_6 20 rfl rfl)
theorem dX2_lays_163 : decode cX2_lays 163 = .ok (.iadd, 1) := dk_96 (dk_at dksX2_lays_6 22 rfl rfl)
theorem dX2_lays_164 : decode cX2_lays 164 = .ok (.iaload, 1) := dk_46 (dk_at dksX2_lays_6 23 rfl rfl)
theorem dX2_lays_165 : decode cX2_lays 165 = .ok (.iastore, 1) := dk_79 (dk_at dksX2_lays_7 0 rfl rfl)
theorem dX2_lays_166 : decode cX2_lays 166 = .ok (.iinc 4 1, 3) := dk_132 4 1 (dk_at dksX2_lays_7 1 rfl rfl)
theorem dX2_lays_169 : decode cX2_lays 169 = .ok (.goto (-61), 3) := dk_167 255 195 (dk_at dksX2_lays_7 4 rfl rfl)
theorem dX2_lays_172 : decode cX2_lays 172 = .ok (.iinc 3 1, 3) := dk_132 3 1 (dk_at dksX2_lays_7 7 rfl rfl)
theorem dX2_lays_175 : decode cX2_lays 175 = .ok (.goto (-80), 3) := dk_167 255 176 (dk_at dksX2_lays_7 10 rfl rfl)
theorem dX2_lays_178 : decode cX2_lays 178 = .ok (.return_, 1) := dk_177 (dk_at dksX2_lays_7 13 rfl rfl)
abbrev cX2_saying : ByteArray := prog_23_method_37_code
def yX2_saying : MethodName := ⟨RX2, "saying", "(III)I"⟩
def dkwX2_saying_6 : List UInt8 := [42, 180, 0, 40, 21, 4, 46, 172, 16, 254, 172]
abbrev dktX2_saying_6 : List UInt8 := dkwX2_saying_6 ++ []
def dkwX2_saying_5 : List UInt8 := [42, 180, 0, 31, 21, 4, 46, 172, 42, 180, 0, 34, 21, 4, 46, 172, 42, 180, 0, 37, 21, 4, 46, 172]
abbrev dktX2_saying_5 : List UInt8 := dkwX2_saying_5 ++ dktX2_saying_6
def dkwX2_saying_4 : List UInt8 := [42, 180, 0, 22, 21, 4, 46, 172, 42, 180, 0, 25, 21, 4, 46, 172, 42, 180, 0, 28, 21, 4, 46, 172]
abbrev dktX2_saying_4 : List UInt8 := dkwX2_saying_4 ++ dktX2_saying_5
def dkwX2_saying_3 : List UInt8 := [170, 0, 0, 0, 0, 0, 0, 100, 0, 0, 0, 0, 0, 0, 0, 6, 0, 0, 0, 44, 0, 0, 0, 52, 0, 0, 0, 60, 0, 0, 0, 68, 0, 0, 0, 76, 0, 0, 0, 84, 0, 0, 0, 92]
abbrev dktX2_saying_3 : List UInt8 := dkwX2_saying_3 ++ dktX2_saying_4
def dkwX2_saying_2 : List UInt8 := [8, 21, 4, 104, 29, 96, 16, 10, 100, 46, 172, 29]
abbrev dktX2_saying_2 : List UInt8 := dkwX2_saying_2 ++ dktX2_saying_3
def dkwX2_saying_1 : List UInt8 := [172, 16, 12, 27, 104, 28, 96, 54, 4, 29, 16, 10, 16, 14, 184, 0, 176, 153, 0, 18, 42, 180, 0, 46]
abbrev dktX2_saying_1 : List UInt8 := dkwX2_saying_1 ++ dktX2_saying_2
def dkwX2_saying_0 : List UInt8 := [42, 27, 182, 1, 43, 153, 0, 17, 28, 155, 0, 13, 28, 42, 180, 0, 19, 27, 46, 161, 0, 6, 16, 254]
abbrev dktX2_saying_0 : List UInt8 := dkwX2_saying_0 ++ dktX2_saying_1
theorem dksX2_saying_0 : cX2_saying.data.toList.drop 0 = dktX2_saying_0 := by decide +kernel
theorem dksX2_saying_1 : cX2_saying.data.toList.drop 24 = dktX2_saying_1 := dk_seg dksX2_saying_0 24 rfl rfl
theorem dksX2_saying_2 : cX2_saying.data.toList.drop 48 = dktX2_saying_2 := dk_seg dksX2_saying_1 24 rfl rfl
theorem dksX2_saying_3 : cX2_saying.data.toList.drop 60 = dktX2_saying_3 := dk_seg dksX2_saying_2 12 rfl rfl
theorem dksX2_saying_4 : cX2_saying.data.toList.drop 104 = dktX2_saying_4 := dk_seg dksX2_saying_3 44 rfl rfl
theorem dksX2_saying_5 : cX2_saying.data.toList.drop 128 = dktX2_saying_5 := dk_seg dksX2_saying_4 24 rfl rfl
theorem dksX2_saying_6 : cX2_saying.data.toList.drop 152 = dktX2_saying_6 := dk_seg dksX2_saying_5 24 rfl rfl
theorem dX2_saying_0 : decode cX2_saying 0 = .ok (.aload_n 0, 1) := dk_42 (dk_at dksX2_saying_0 0 rfl rfl)
theorem dX2_saying_1 : decode cX2_saying 1 = .ok (.iload_n 1, 1) := dk_27 (dk_at dksX2_saying_0 1 rfl rfl)
theorem dX2_saying_2 : decode cX2_saying 2 = .ok (.invokevirtual 299, 3) := dk_182 1 43 (dk_at dksX2_saying_0 2 rfl rfl)
theorem dX2_saying_5 : decode cX2_saying 5 = .ok (.ifCond .eq 17, 3) := dk_153 0 17 (dk_at dksX2_saying_0 5 rfl rfl)
theorem dX2_saying_8 : decode cX2_saying 8 = .ok (.iload_n 2, 1) := dk_28 (dk_at dksX2_saying_0 8 rfl rfl)
theorem dX2_saying_9 : decode cX2_saying 9 = .ok (.ifCond .lt 13, 3) := dk_155 0 13 (dk_at dksX2_saying_0 9 rfl rfl)
theorem dX2_saying_12 : decode cX2_saying 12 = .ok (.iload_n 2, 1) := dk_28 (dk_at dksX2_saying_0 12 rfl rfl)
theorem dX2_saying_13 : decode cX2_saying 13 = .ok (.aload_n 0, 1) := dk_42 (dk_at dksX2_saying_0 13 rfl rfl)
theorem dX2_saying_14 : decode cX2_saying 14 = .ok (.getfield 19, 3) := dk_180 0 19 (dk_at dksX2_saying_0 14 rfl rfl)
theorem dX2_saying_17 : decode cX2_saying 17 = .ok (.iload_n 1, 1) := dk_27 (dk_at dksX2_saying_0 17 rfl rfl)
theorem dX2_saying_18 : decode cX2_saying 18 = .ok (.iaload, 1) := dk_46 (dk_at dksX2_saying_0 18 rfl rfl)
theorem dX2_saying_19 : decode cX2_saying 19 = .ok (.if_icmp .lt 6, 3) := dk_161 0 6 (dk_at dksX2_saying_0 19 rfl rfl)
theorem dX2_saying_22 : decode cX2_saying 22 = .ok (.bipush (-2), 2) := dk_16 254 (dk_at dksX2_saying_0 22 rfl rfl)
theorem dX2_saying_24 : decode cX2_saying 24 = .ok (.ireturn, 1) := dk_172 (dk_at dksX2_saying_1 0 rfl rfl)
theorem dX2_saying_25 : decode cX2_saying 25 = .ok (.bipush 12, 2) := dk_16 12 (dk_at dksX2_saying_1 1 rfl rfl)
theorem dX2_saying_27 : decode cX2_saying 27 = .ok (.iload_n 1, 1) := dk_27 (dk_at dksX2_saying_1 3 rfl rfl)
theorem dX2_saying_28 : decode cX2_saying 28 = .ok (.imul, 1) := dk_104 (dk_at dksX2_saying_1 4 rfl rfl)
theorem dX2_saying_29 : decode cX2_saying 29 = .ok (.iload_n 2, 1) := dk_28 (dk_at dksX2_saying_1 5 rfl rfl)
theorem dX2_saying_30 : decode cX2_saying 30 = .ok (.iadd, 1) := dk_96 (dk_at dksX2_saying_1 6 rfl rfl)
theorem dX2_saying_31 : decode cX2_saying 31 = .ok (.istore 4, 2) := dk_54 4 (dk_at dksX2_saying_1 7 rfl rfl)
theorem dX2_saying_33 : decode cX2_saying 33 = .ok (.iload_n 3, 1) := dk_29 (dk_at dksX2_saying_1 9 rfl rfl)
theorem dX2_saying_34 : decode cX2_saying 34 = .ok (.bipush 10, 2) := dk_16 10 (dk_at dksX2_saying_1 10 rfl rfl)
theorem dX2_saying_36 : decode cX2_saying 36 = .ok (.bipush 14, 2) := dk_16 14 (dk_at dksX2_saying_1 12 rfl rfl)
theorem dX2_saying_38 : decode cX2_saying 38 = .ok (.invokestatic 176, 3) := dk_184 0 176 (dk_at dksX2_saying_1 14 rfl rfl)
theorem dX2_saying_41 : decode cX2_saying 41 = .ok (.ifCond .eq 18, 3) := dk_153 0 18 (dk_at dksX2_saying_1 17 rfl rfl)
theorem dX2_saying_44 : decode cX2_saying 44 = .ok (.aload_n 0, 1) := dk_42 (dk_at dksX2_saying_1 20 rfl rfl)
theorem dX2_saying_45 : decode cX2_saying 45 = .ok (.getfield 46, 3) := dk_180 0 46 (dk_at dksX2_saying_1 21 rfl rfl)
theorem dX2_saying_48 : decode cX2_saying 48 = .ok (.iconst 5, 1) := dk_8 (dk_at dksX2_saying_2 0 rfl rfl)
theorem dX2_saying_49 : decode cX2_saying 49 = .ok (.iload 4, 2) := dk_21 4 (dk_at dksX2_saying_2 1 rfl rfl)
theorem dX2_saying_51 : decode cX2_saying 51 = .ok (.imul, 1) := dk_104 (dk_at dksX2_saying_2 3 rfl rfl)
theorem dX2_saying_52 : decode cX2_saying 52 = .ok (.iload_n 3, 1) := dk_29 (dk_at dksX2_saying_2 4 rfl rfl)
theorem dX2_saying_53 : decode cX2_saying 53 = .ok (.iadd, 1) := dk_96 (dk_at dksX2_saying_2 5 rfl rfl)
theorem dX2_saying_54 : decode cX2_saying 54 = .ok (.bipush 10, 2) := dk_16 10 (dk_at dksX2_saying_2 6 rfl rfl)
theorem dX2_saying_56 : decode cX2_saying 56 = .ok (.isub, 1) := dk_100 (dk_at dksX2_saying_2 8 rfl rfl)
theorem dX2_saying_57 : decode cX2_saying 57 = .ok (.iaload, 1) := dk_46 (dk_at dksX2_saying_2 9 rfl rfl)
theorem dX2_saying_58 : decode cX2_saying 58 = .ok (.ireturn, 1) := dk_172 (dk_at dksX2_saying_2 10 rfl rfl)
theorem dX2_saying_59 : decode cX2_saying 59 = .ok (.iload_n 3, 1) := dk_29 (dk_at dksX2_saying_2 11 rfl rfl)
theorem dX2_saying_60 : decode cX2_saying 60 = .ok (.tableswitch 100 0 6 #[44, 52, 60, 68, 76, 84, 92], 44) := by decide +kernel
theorem dX2_saying_104 : decode cX2_saying 104 = .ok (.aload_n 0, 1) := dk_42 (dk_at dksX2_saying_4 0 rfl rfl)
theorem dX2_saying_105 : decode cX2_saying 105 = .ok (.getfield 22, 3) := dk_180 0 22 (dk_at dksX2_saying_4 1 rfl rfl)
theorem dX2_saying_108 : decode cX2_saying 108 = .ok (.iload 4, 2) := dk_21 4 (dk_at dksX2_saying_4 4 rfl rfl)
theorem dX2_saying_110 : decode cX2_saying 110 = .ok (.iaload, 1) := dk_46 (dk_at dksX2_saying_4 6 rfl rfl)
theorem dX2_saying_111 : decode cX2_saying 111 = .ok (.ireturn, 1) := dk_172 (dk_at dksX2_saying_4 7 rfl rfl)
theorem dX2_saying_112 : decode cX2_saying 112 = .ok (.aload_n 0, 1) := dk_42 (dk_at dksX2_saying_4 8 rfl rfl)
theorem dX2_saying_113 : decode cX2_saying 113 = .ok (.getfield 25, 3) := dk_180 0 25 (dk_at dksX2_saying_4 9 rfl rfl)
theorem dX2_saying_116 : decode cX2_saying 116 = .ok (.iload 4, 2) := dk_21 4 (dk_at dksX2_saying_4 12 rfl rfl)
theorem dX2_saying_118 : decode cX2_saying 118 = .ok (.iaload, 1) := dk_46 (dk_at dksX2_saying_4 14 rfl rfl)
theorem dX2_saying_119 : decode cX2_saying 119 = .ok (.ireturn, 1) := dk_172 (dk_at dksX2_saying_4 15 rfl rfl)
theorem dX2_saying_120 : decode cX2_saying 120 = .ok (.aload_n 0, 1) := dk_42 (dk_at dksX2_saying_4 16 rfl rfl)
theorem dX2_saying_121 : decode cX2_saying 121 = .ok (.getfield 28, 3) := dk_180 0 28 (dk_at dksX2_saying_4 17 rfl rfl)
theorem dX2_saying_124 : decode cX2_saying 124 = .ok (.iload 4, 2) := dk_21 4 (dk_at dksX2_saying_4 20 rfl rfl)
theorem dX2_saying_126 : decode cX2_saying 126 = .ok (.iaload, 1) := dk_46 (dk_at dksX2_saying_4 22 rfl rfl)
theorem dX2_saying_127 : decode cX2_saying 127 = .ok (.ireturn, 1) := dk_172 (dk_at dksX2_saying_4 23 rfl rfl)
theorem dX2_saying_128 : decode cX2_saying 128 = .ok (.aload_n 0, 1) := dk_42 (dk_at dksX2_saying_5 0 rfl rfl)
theorem dX2_saying_129 : decode cX2_saying 129 = .ok (.getfield 31, 3) := dk_180 0 31 (dk_at dksX2_saying_5 1 rfl rfl)
theorem dX2_saying_132 : decode cX2_saying 132 = .ok (.iload 4, 2) := dk_21 4 (dk_at dksX2_saying_5 4 rfl rfl)
theorem dX2_saying_134 : decode cX2_saying 134 = .ok (.iaload, 1) := dk_46 (dk_at dksX2_saying_5 6 rfl rfl)
theorem dX2_saying_135 : decode cX2_saying 135 = .ok (.ireturn, 1) := dk_172 (dk_at dksX2_saying_5 7 rfl rfl)
theorem dX2_saying_136 : decode cX2_saying 136 = .ok (.aload_n 0, 1) := dk_42 (dk_at dksX2_saying_5 8 rfl rfl)
theorem dX2_saying_137 : decode cX2_saying 137 = .ok (.getfield 34, 3) := dk_180 0 34 (dk_at dksX2_saying_5 9 rfl rfl)
theorem dX2_saying_140 : decode cX2_saying 140 = .ok (.iload 4, 2) := dk_21 4 (dk_at dksX2_saying_5 12 rfl rfl)
theorem dX2_saying_142 : decode cX2_saying 142 = .ok (.iaload, 1) := dk_46 (dk_at dksX2_saying_5 14 rfl rfl)
theorem dX2_saying_143 : decode cX2_saying 143 = .ok (.ireturn, 1) := dk_172 (dk_at dksX2_saying_5 15 rfl rfl)
theorem dX2_saying_144 : decode cX2_saying 144 = .ok (.aload_n 0, 1) := dk_42 (dk_at dksX2_saying_5 16 rfl rfl)
theorem dX2_saying_145 : decode cX2_saying 145 = .ok (.getfield 37, 3) := dk_180 0 37 (dk_at dksX2_saying_5 17 rfl rfl)
theorem dX2_saying_148 : decode cX2_saying 148 = .ok (.iload 4, 2) := dk_21 4 (dk_at dksX2_saying_5 20 rfl rfl)
theorem dX2_saying_150 : decode cX2_saying 150 = .ok (.iaload, 1) := dk_46 (dk_at dksX2_saying_5 22 rfl rfl)
theorem dX2_saying_151 : decode cX2_saying 151 = .ok (.ireturn, 1) := dk_172 (dk_at dksX2_saying_5 23 rfl rfl)
theorem dX2_saying_152 : decode cX2_saying 152 = .ok (.aload_n 0, 1) := dk_42 (dk_at dksX2_saying_6 0 rfl rfl)
theorem dX2_saying_153 : decode cX2_saying 153 = .ok (.getfield 40, 3) := dk_180 0 40 (dk_at dksX2_saying_6 1 rfl rfl)
theorem dX2_saying_156 : decode cX2_saying 156 = .ok (.iload 4, 2) := dk_21 4 (dk_at dksX2_saying_6 4 rfl rfl)
theorem dX2_saying_158 : decode cX2_saying 158 = .ok (.iaload, 1) := dk_46 (dk_at dksX2_saying_6 6 rfl rfl)
theorem dX2_saying_159 : decode cX2_saying 159 = .ok (.ireturn, 1) := dk_172 (dk_at dksX2_saying_6 7 rfl rfl)
theorem dX2_saying_160 : decode cX2_saying 160 = .ok (.bipush (-2), 2) := dk_16 254 (dk_at dksX2_saying_6 8 rfl rfl)
theorem dX2_saying_162 : decode cX2_saying 162 = .ok (.ireturn, 1) := dk_172 (dk_at dksX2_saying_6 10 rfl rfl)
abbrev cX2_asked : ByteArray := prog_23_method_63_code
def yX2_asked : MethodName := ⟨RX2, "asked", "(II)I"⟩
def dkwX2_asked_2 : List UInt8 := [167, 0, 18, 42, 182, 1, 171, 153, 0, 10, 42, 180, 1, 101, 167, 0, 4, 2, 172]
abbrev dktX2_asked_2 : List UInt8 := dkwX2_asked_2 ++ []
def dkwX2_asked_1 : List UInt8 := [182, 1, 187, 28, 154, 0, 10, 42, 180, 1, 95, 167, 0, 30, 28, 4, 160, 0, 10, 42, 180, 1, 98]
abbrev dktX2_asked_1 : List UInt8 := dkwX2_asked_1 ++ dktX2_asked_2
def dkwX2_asked_0 : List UInt8 := [42, 27, 182, 1, 43, 153, 0, 12, 28, 3, 5, 184, 0, 176, 154, 0, 6, 16, 254, 172, 42, 27]
abbrev dktX2_asked_0 : List UInt8 := dkwX2_asked_0 ++ dktX2_asked_1
theorem dksX2_asked_0 : cX2_asked.data.toList.drop 0 = dktX2_asked_0 := by decide +kernel
theorem dksX2_asked_1 : cX2_asked.data.toList.drop 22 = dktX2_asked_1 := dk_seg dksX2_asked_0 22 rfl rfl
theorem dksX2_asked_2 : cX2_asked.data.toList.drop 45 = dktX2_asked_2 := dk_seg dksX2_asked_1 23 rfl rfl
theorem dX2_asked_0 : decode cX2_asked 0 = .ok (.aload_n 0, 1) := dk_42 (dk_at dksX2_asked_0 0 rfl rfl)
theorem dX2_asked_1 : decode cX2_asked 1 = .ok (.iload_n 1, 1) := dk_27 (dk_at dksX2_asked_0 1 rfl rfl)
theorem dX2_asked_2 : decode cX2_asked 2 = .ok (.invokevirtual 299, 3) := dk_182 1 43 (dk_at dksX2_asked_0 2 rfl rfl)
theorem dX2_asked_5 : decode cX2_asked 5 = .ok (.ifCond .eq 12, 3) := dk_153 0 12 (dk_at dksX2_asked_0 5 rfl rfl)
theorem dX2_asked_8 : decode cX2_asked 8 = .ok (.iload_n 2, 1) := dk_28 (dk_at dksX2_asked_0 8 rfl rfl)
theorem dX2_asked_9 : decode cX2_asked 9 = .ok (.iconst 0, 1) := dk_3 (dk_at dksX2_asked_0 9 rfl rfl)
theorem dX2_asked_10 : decode cX2_asked 10 = .ok (.iconst 2, 1) := dk_5 (dk_at dksX2_asked_0 10 rfl rfl)
theorem dX2_asked_11 : decode cX2_asked 11 = .ok (.invokestatic 176, 3) := dk_184 0 176 (dk_at dksX2_asked_0 11 rfl rfl)
theorem dX2_asked_14 : decode cX2_asked 14 = .ok (.ifCond .ne 6, 3) := dk_154 0 6 (dk_at dksX2_asked_0 14 rfl rfl)
theorem dX2_asked_17 : decode cX2_asked 17 = .ok (.bipush (-2), 2) := dk_16 254 (dk_at dksX2_asked_0 17 rfl rfl)
theorem dX2_asked_19 : decode cX2_asked 19 = .ok (.ireturn, 1) := dk_172 (dk_at dksX2_asked_0 19 rfl rfl)
theorem dX2_asked_20 : decode cX2_asked 20 = .ok (.aload_n 0, 1) := dk_42 (dk_at dksX2_asked_0 20 rfl rfl)
theorem dX2_asked_21 : decode cX2_asked 21 = .ok (.iload_n 1, 1) := dk_27 (dk_at dksX2_asked_0 21 rfl rfl)
theorem dX2_asked_22 : decode cX2_asked 22 = .ok (.invokevirtual 443, 3) := dk_182 1 187 (dk_at dksX2_asked_1 0 rfl rfl)
theorem dX2_asked_25 : decode cX2_asked 25 = .ok (.iload_n 2, 1) := dk_28 (dk_at dksX2_asked_1 3 rfl rfl)
theorem dX2_asked_26 : decode cX2_asked 26 = .ok (.ifCond .ne 10, 3) := dk_154 0 10 (dk_at dksX2_asked_1 4 rfl rfl)
theorem dX2_asked_29 : decode cX2_asked 29 = .ok (.aload_n 0, 1) := dk_42 (dk_at dksX2_asked_1 7 rfl rfl)
theorem dX2_asked_30 : decode cX2_asked 30 = .ok (.getfield 351, 3) := dk_180 1 95 (dk_at dksX2_asked_1 8 rfl rfl)
theorem dX2_asked_33 : decode cX2_asked 33 = .ok (.goto 30, 3) := dk_167 0 30 (dk_at dksX2_asked_1 11 rfl rfl)
theorem dX2_asked_36 : decode cX2_asked 36 = .ok (.iload_n 2, 1) := dk_28 (dk_at dksX2_asked_1 14 rfl rfl)
theorem dX2_asked_37 : decode cX2_asked 37 = .ok (.iconst 1, 1) := dk_4 (dk_at dksX2_asked_1 15 rfl rfl)
theorem dX2_asked_38 : decode cX2_asked 38 = .ok (.if_icmp .ne 10, 3) := dk_160 0 10 (dk_at dksX2_asked_1 16 rfl rfl)
theorem dX2_asked_41 : decode cX2_asked 41 = .ok (.aload_n 0, 1) := dk_42 (dk_at dksX2_asked_1 19 rfl rfl)
theorem dX2_asked_42 : decode cX2_asked 42 = .ok (.getfield 354, 3) := dk_180 1 98 (dk_at dksX2_asked_1 20 rfl rfl)
theorem dX2_asked_45 : decode cX2_asked 45 = .ok (.goto 18, 3) := dk_167 0 18 (dk_at dksX2_asked_2 0 rfl rfl)
theorem dX2_asked_48 : decode cX2_asked 48 = .ok (.aload_n 0, 1) := dk_42 (dk_at dksX2_asked_2 3 rfl rfl)
theorem dX2_asked_49 : decode cX2_asked 49 = .ok (.invokevirtual 427, 3) := dk_182 1 171 (dk_at dksX2_asked_2 4 rfl rfl)
theorem dX2_asked_52 : decode cX2_asked 52 = .ok (.ifCond .eq 10, 3) := dk_153 0 10 (dk_at dksX2_asked_2 7 rfl rfl)
theorem dX2_asked_55 : decode cX2_asked 55 = .ok (.aload_n 0, 1) := dk_42 (dk_at dksX2_asked_2 10 rfl rfl)
theorem dX2_asked_56 : decode cX2_asked 56 = .ok (.getfield 357, 3) := dk_180 1 101 (dk_at dksX2_asked_2 11 rfl rfl)
theorem dX2_asked_59 : decode cX2_asked 59 = .ok (.goto 4, 3) := dk_167 0 4 (dk_at dksX2_asked_2 14 rfl rfl)
theorem dX2_asked_62 : decode cX2_asked 62 = .ok (.iconst (-1), 1) := dk_2 (dk_at dksX2_asked_2 17 rfl rfl)
theorem dX2_asked_63 : decode cX2_asked 63 = .ok (.ireturn, 1) := dk_172 (dk_at dksX2_asked_2 18 rfl rfl)
abbrev cX2_bringPlain : ByteArray := prog_23_method_64_code
def yX2_bringPlain : MethodName := ⟨RX2, "bringPlain", "(I)V"⟩
def dkwX2_bringPlain_1 : List UInt8 := [182, 1, 178, 42, 182, 1, 168, 177]
abbrev dktX2_bringPlain_1 : List UInt8 := dkwX2_bringPlain_1 ++ []
def dkwX2_bringPlain_0 : List UInt8 := [3, 61, 28, 16, 16, 162, 0, 16, 42, 180, 0, 130, 28, 3, 84, 132, 2, 1, 167, 255, 240, 42, 27]
abbrev dktX2_bringPlain_0 : List UInt8 := dkwX2_bringPlain_0 ++ dktX2_bringPlain_1
theorem dksX2_bringPlain_0 : cX2_bringPlain.data.toList.drop 0 = dktX2_bringPlain_0 := by decide +kernel
theorem dksX2_bringPlain_1 : cX2_bringPlain.data.toList.drop 23 = dktX2_bringPlain_1 := dk_seg dksX2_bringPlain_0 23 rfl rfl
theorem dX2_bringPlain_0 : decode cX2_bringPlain 0 = .ok (.iconst 0, 1) := dk_3 (dk_at dksX2_bringPlain_0 0 rfl rfl)
theorem dX2_bringPlain_1 : decode cX2_bringPlain 1 = .ok (.istore_n 2, 1) := dk_61 (dk_at dksX2_bringPlain_0 1 rfl rfl)
theorem dX2_bringPlain_2 : decode cX2_bringPlain 2 = .ok (.iload_n 2, 1) := dk_28 (dk_at dksX2_bringPlain_0 2 rfl rfl)
theorem dX2_bringPlain_3 : decode cX2_bringPlain 3 = .ok (.bipush 16, 2) := dk_16 16 (dk_at dksX2_bringPlain_0 3 rfl rfl)
theorem dX2_bringPlain_5 : decode cX2_bringPlain 5 = .ok (.if_icmp .ge 16, 3) := dk_162 0 16 (dk_at dksX2_bringPlain_0 5 rfl rfl)
theorem dX2_bringPlain_8 : decode cX2_bringPlain 8 = .ok (.aload_n 0, 1) := dk_42 (dk_at dksX2_bringPlain_0 8 rfl rfl)
theorem dX2_bringPlain_9 : decode cX2_bringPlain 9 = .ok (.getfield 130, 3) := dk_180 0 130 (dk_at dksX2_bringPlain_0 9 rfl rfl)
theorem dX2_bringPlain_12 : decode cX2_bringPlain 12 = .ok (.iload_n 2, 1) := dk_28 (dk_at dksX2_bringPlain_0 12 rfl rfl)
theorem dX2_bringPlain_13 : decode cX2_bringPlain 13 = .ok (.iconst 0, 1) := dk_3 (dk_at dksX2_bringPlain_0 13 rfl rfl)
theorem dX2_bringPlain_14 : decode cX2_bringPlain 14 = .ok (.bastore, 1) := dk_84 (dk_at dksX2_bringPlain_0 14 rfl rfl)
theorem dX2_bringPlain_15 : decode cX2_bringPlain 15 = .ok (.iinc 2 1, 3) := dk_132 2 1 (dk_at dksX2_bringPlain_0 15 rfl rfl)
theorem dX2_bringPlain_18 : decode cX2_bringPlain 18 = .ok (.goto (-16), 3) := dk_167 255 240 (dk_at dksX2_bringPlain_0 18 rfl rfl)
theorem dX2_bringPlain_21 : decode cX2_bringPlain 21 = .ok (.aload_n 0, 1) := dk_42 (dk_at dksX2_bringPlain_0 21 rfl rfl)
theorem dX2_bringPlain_22 : decode cX2_bringPlain 22 = .ok (.iload_n 1, 1) := dk_27 (dk_at dksX2_bringPlain_0 22 rfl rfl)
theorem dX2_bringPlain_23 : decode cX2_bringPlain 23 = .ok (.invokevirtual 434, 3) := dk_182 1 178 (dk_at dksX2_bringPlain_1 0 rfl rfl)
theorem dX2_bringPlain_26 : decode cX2_bringPlain 26 = .ok (.aload_n 0, 1) := dk_42 (dk_at dksX2_bringPlain_1 3 rfl rfl)
theorem dX2_bringPlain_27 : decode cX2_bringPlain 27 = .ok (.invokevirtual 424, 3) := dk_182 1 168 (dk_at dksX2_bringPlain_1 4 rfl rfl)
theorem dX2_bringPlain_30 : decode cX2_bringPlain 30 = .ok (.return_, 1) := dk_177 (dk_at dksX2_bringPlain_1 7 rfl rfl)
abbrev cX2_bring : ByteArray := prog_23_method_38_code
def yX2_bring : MethodName := ⟨RX2, "bring", "(I)V"⟩
def dkwX2_bring_10 : List UInt8 := [167, 255, 203, 132, 2, 1, 167, 255, 24, 177]
abbrev dktX2_bring_10 : List UInt8 := dkwX2_bring_10 ++ []
def dkwX2_bring_9 : List UInt8 := [180, 0, 100, 6, 28, 104, 21, 4, 96, 42, 180, 0, 52, 6, 29, 104, 21, 4, 96, 46, 79, 132, 4, 1]
abbrev dktX2_bring_9 : List UInt8 := dkwX2_bring_9 ++ dktX2_bring_10
def dkwX2_bring_8 : List UInt8 := [180, 0, 97, 6, 28, 104, 21, 4, 96, 42, 180, 0, 49, 6, 29, 104, 21, 4, 96, 46, 79, 42]
abbrev dktX2_bring_8 : List UInt8 := dkwX2_bring_8 ++ dktX2_bring_9
def dkwX2_bring_7 : List UInt8 := [8, 29, 104, 21, 4, 96, 46, 79, 132, 4, 1, 167, 255, 225, 3, 54, 4, 21, 4, 6, 162, 0, 53, 42]
abbrev dktX2_bring_7 : List UInt8 := dkwX2_bring_7 ++ dktX2_bring_8
def dkwX2_bring_6 : List UInt8 := [84, 3, 54, 4, 21, 4, 8, 162, 0, 31, 42, 180, 0, 94, 8, 28, 104, 21, 4, 96, 42, 180, 0, 46]
abbrev dktX2_bring_6 : List UInt8 := dkwX2_bring_6 ++ dktX2_bring_7
def dkwX2_bring_5 : List UInt8 := [29, 46, 155, 0, 21, 42, 180, 0, 130, 42, 180, 0, 40, 29, 46, 51, 154, 0, 7, 4, 167, 0, 4, 3]
abbrev dktX2_bring_5 : List UInt8 := dkwX2_bring_5 ++ dktX2_bring_6
def dkwX2_bring_4 : List UInt8 := [29, 46, 79, 42, 180, 0, 87, 28, 42, 180, 0, 28, 29, 46, 79, 42, 180, 0, 90, 28, 42, 180, 0, 40]
abbrev dktX2_bring_4 : List UInt8 := dkwX2_bring_4 ++ dktX2_bring_5
def dkwX2_bring_3 : List UInt8 := [29, 46, 79, 42, 180, 0, 81, 28, 42, 180, 0, 31, 29, 46, 79, 42, 180, 0, 84, 28, 42, 180, 0, 25]
abbrev dktX2_bring_3 : List UInt8 := dkwX2_bring_3 ++ dktX2_bring_4
def dkwX2_bring_2 : List UInt8 := [29, 46, 79, 42, 180, 0, 75, 28, 42, 180, 0, 43, 29, 46, 79, 42, 180, 0, 78, 28, 42, 180, 0, 37]
abbrev dktX2_bring_2 : List UInt8 := dkwX2_bring_2 ++ dktX2_bring_3
def dkwX2_bring_1 : List UInt8 := [28, 96, 62, 42, 180, 0, 69, 28, 42, 180, 0, 22, 29, 46, 79, 42, 180, 0, 72, 28, 42, 180, 0, 34]
abbrev dktX2_bring_1 : List UInt8 := dkwX2_bring_1 ++ dktX2_bring_2
def dkwX2_bring_0 : List UInt8 := [42, 42, 180, 0, 19, 27, 46, 181, 1, 95, 3, 61, 28, 42, 180, 1, 95, 162, 0, 230, 16, 12, 27, 104]
abbrev dktX2_bring_0 : List UInt8 := dkwX2_bring_0 ++ dktX2_bring_1
theorem dksX2_bring_0 : cX2_bring.data.toList.drop 0 = dktX2_bring_0 := by decide +kernel
theorem dksX2_bring_1 : cX2_bring.data.toList.drop 24 = dktX2_bring_1 := dk_seg dksX2_bring_0 24 rfl rfl
theorem dksX2_bring_2 : cX2_bring.data.toList.drop 48 = dktX2_bring_2 := dk_seg dksX2_bring_1 24 rfl rfl
theorem dksX2_bring_3 : cX2_bring.data.toList.drop 72 = dktX2_bring_3 := dk_seg dksX2_bring_2 24 rfl rfl
theorem dksX2_bring_4 : cX2_bring.data.toList.drop 96 = dktX2_bring_4 := dk_seg dksX2_bring_3 24 rfl rfl
theorem dksX2_bring_5 : cX2_bring.data.toList.drop 120 = dktX2_bring_5 := dk_seg dksX2_bring_4 24 rfl rfl
theorem dksX2_bring_6 : cX2_bring.data.toList.drop 144 = dktX2_bring_6 := dk_seg dksX2_bring_5 24 rfl rfl
theorem dksX2_bring_7 : cX2_bring.data.toList.drop 168 = dktX2_bring_7 := dk_seg dksX2_bring_6 24 rfl rfl
theorem dksX2_bring_8 : cX2_bring.data.toList.drop 192 = dktX2_bring_8 := dk_seg dksX2_bring_7 24 rfl rfl
theorem dksX2_bring_9 : cX2_bring.data.toList.drop 214 = dktX2_bring_9 := dk_seg dksX2_bring_8 22 rfl rfl
theorem dksX2_bring_10 : cX2_bring.data.toList.drop 238 = dktX2_bring_10 := dk_seg dksX2_bring_9 24 rfl rfl
theorem dX2_bring_0 : decode cX2_bring 0 = .ok (.aload_n 0, 1) := dk_42 (dk_at dksX2_bring_0 0 rfl rfl)
theorem dX2_bring_1 : decode cX2_bring 1 = .ok (.aload_n 0, 1) := dk_42 (dk_at dksX2_bring_0 1 rfl rfl)
theorem dX2_bring_2 : decode cX2_bring 2 = .ok (.getfield 19, 3) := dk_180 0 19 (dk_at dksX2_bring_0 2 rfl rfl)
theorem dX2_bring_5 : decode cX2_bring 5 = .ok (.iload_n 1, 1) := dk_27 (dk_at dksX2_bring_0 5 rfl rfl)
theorem dX2_bring_6 : decode cX2_bring 6 = .ok (.iaload, 1) := dk_46 (dk_at dksX2_bring_0 6 rfl rfl)
theorem dX2_bring_7 : decode cX2_bring 7 = .ok (.putfield 351, 3) := dk_181 1 95 (dk_at dksX2_bring_0 7 rfl rfl)
theorem dX2_bring_10 : decode cX2_bring 10 = .ok (.iconst 0, 1) := dk_3 (dk_at dksX2_bring_0 10 rfl rfl)
theorem dX2_bring_11 : decode cX2_bring 11 = .ok (.istore_n 2, 1) := dk_61 (dk_at dksX2_bring_0 11 rfl rfl)
theorem dX2_bring_12 : decode cX2_bring 12 = .ok (.iload_n 2, 1) := dk_28 (dk_at dksX2_bring_0 12 rfl rfl)
theorem dX2_bring_13 : decode cX2_bring 13 = .ok (.aload_n 0, 1) := dk_42 (dk_at dksX2_bring_0 13 rfl rfl)
theorem dX2_bring_14 : decode cX2_bring 14 = .ok (.getfield 351, 3) := dk_180 1 95 (dk_at dksX2_bring_0 14 rfl rfl)
theorem dX2_bring_17 : decode cX2_bring 17 = .ok (.if_icmp .ge 230, 3) := dk_162 0 230 (dk_at dksX2_bring_0 17 rfl rfl)
theorem dX2_bring_20 : decode cX2_bring 20 = .ok (.bipush 12, 2) := dk_16 12 (dk_at dksX2_bring_0 20 rfl rfl)
theorem dX2_bring_22 : decode cX2_bring 22 = .ok (.iload_n 1, 1) := dk_27 (dk_at dksX2_bring_0 22 rfl rfl)
theorem dX2_bring_23 : decode cX2_bring 23 = .ok (.imul, 1) := dk_104 (dk_at dksX2_bring_0 23 rfl rfl)
theorem dX2_bring_24 : decode cX2_bring 24 = .ok (.iload_n 2, 1) := dk_28 (dk_at dksX2_bring_1 0 rfl rfl)
theorem dX2_bring_25 : decode cX2_bring 25 = .ok (.iadd, 1) := dk_96 (dk_at dksX2_bring_1 1 rfl rfl)
theorem dX2_bring_26 : decode cX2_bring 26 = .ok (.istore_n 3, 1) := dk_62 (dk_at dksX2_bring_1 2 rfl rfl)
theorem dX2_bring_27 : decode cX2_bring 27 = .ok (.aload_n 0, 1) := dk_42 (dk_at dksX2_bring_1 3 rfl rfl)
theorem dX2_bring_28 : decode cX2_bring 28 = .ok (.getfield 69, 3) := dk_180 0 69 (dk_at dksX2_bring_1 4 rfl rfl)
theorem dX2_bring_31 : decode cX2_bring 31 = .ok (.iload_n 2, 1) := dk_28 (dk_at dksX2_bring_1 7 rfl rfl)
theorem dX2_bring_32 : decode cX2_bring 32 = .ok (.aload_n 0, 1) := dk_42 (dk_at dksX2_bring_1 8 rfl rfl)
theorem dX2_bring_33 : decode cX2_bring 33 = .ok (.getfield 22, 3) := dk_180 0 22 (dk_at dksX2_bring_1 9 rfl rfl)
theorem dX2_bring_36 : decode cX2_bring 36 = .ok (.iload_n 3, 1) := dk_29 (dk_at dksX2_bring_1 12 rfl rfl)
theorem dX2_bring_37 : decode cX2_bring 37 = .ok (.iaload, 1) := dk_46 (dk_at dksX2_bring_1 13 rfl rfl)
theorem dX2_bring_38 : decode cX2_bring 38 = .ok (.iastore, 1) := dk_79 (dk_at dksX2_bring_1 14 rfl rfl)
theorem dX2_bring_39 : decode cX2_bring 39 = .ok (.aload_n 0, 1) := dk_42 (dk_at dksX2_bring_1 15 rfl rfl)
theorem dX2_bring_40 : decode cX2_bring 40 = .ok (.getfield 72, 3) := dk_180 0 72 (dk_at dksX2_bring_1 16 rfl rfl)
theorem dX2_bring_43 : decode cX2_bring 43 = .ok (.iload_n 2, 1) := dk_28 (dk_at dksX2_bring_1 19 rfl rfl)
theorem dX2_bring_44 : decode cX2_bring 44 = .ok (.aload_n 0, 1) := dk_42 (dk_at dksX2_bring_1 20 rfl rfl)
theorem dX2_bring_45 : decode cX2_bring 45 = .ok (.getfield 34, 3) := dk_180 0 34 (dk_at dksX2_bring_1 21 rfl rfl)
theorem dX2_bring_48 : decode cX2_bring 48 = .ok (.iload_n 3, 1) := dk_29 (dk_at dksX2_bring_2 0 rfl rfl)
theorem dX2_bring_49 : decode cX2_bring 49 = .ok (.iaload, 1) := dk_46 (dk_at dksX2_bring_2 1 rfl rfl)
theorem dX2_bring_50 : decode cX2_bring 50 = .ok (.iastore, 1) := dk_79 (dk_at dksX2_bring_2 2 rfl rfl)
theorem dX2_bring_51 : decode cX2_bring 51 = .ok (.aload_n 0, 1) := dk_42 (dk_at dksX2_bring_2 3 rfl rfl)
theorem dX2_bring_52 : decode cX2_bring 52 = .ok (.getfield 75, 3) := dk_180 0 75 (dk_at dksX2_bring_2 4 rfl rfl)
theorem dX2_bring_55 : decode cX2_bring 55 = .ok (.iload_n 2, 1) := dk_28 (dk_at dksX2_bring_2 7 rfl rfl)
theorem dX2_bring_56 : decode cX2_bring 56 = .ok (.aload_n 0, 1) := dk_42 (dk_at dksX2_bring_2 8 rfl rfl)
theorem dX2_bring_57 : decode cX2_bring 57 = .ok (.getfield 43, 3) := dk_180 0 43 (dk_at dksX2_bring_2 9 rfl rfl)
theorem dX2_bring_60 : decode cX2_bring 60 = .ok (.iload_n 3, 1) := dk_29 (dk_at dksX2_bring_2 12 rfl rfl)
theorem dX2_bring_61 : decode cX2_bring 61 = .ok (.iaload, 1) := dk_46 (dk_at dksX2_bring_2 13 rfl rfl)
theorem dX2_bring_62 : decode cX2_bring 62 = .ok (.iastore, 1) := dk_79 (dk_at dksX2_bring_2 14 rfl rfl)
theorem dX2_bring_63 : decode cX2_bring 63 = .ok (.aload_n 0, 1) := dk_42 (dk_at dksX2_bring_2 15 rfl rfl)
theorem dX2_bring_64 : decode cX2_bring 64 = .ok (.getfield 78, 3) := dk_180 0 78 (dk_at dksX2_bring_2 16 rfl rfl)
theorem dX2_bring_67 : decode cX2_bring 67 = .ok (.iload_n 2, 1) := dk_28 (dk_at dksX2_bring_2 19 rfl rfl)
theorem dX2_bring_68 : decode cX2_bring 68 = .ok (.aload_n 0, 1) := dk_42 (dk_at dksX2_bring_2 20 rfl rfl)
theorem dX2_bring_69 : decode cX2_bring 69 = .ok (.getfield 37, 3) := dk_180 0 37 (dk_at dksX2_bring_2 21 rfl rfl)
theorem dX2_bring_72 : decode cX2_bring 72 = .ok (.iload_n 3, 1) := dk_29 (dk_at dksX2_bring_3 0 rfl rfl)
theorem dX2_bring_73 : decode cX2_bring 73 = .ok (.iaload, 1) := dk_46 (dk_at dksX2_bring_3 1 rfl rfl)
theorem dX2_bring_74 : decode cX2_bring 74 = .ok (.iastore, 1) := dk_79 (dk_at dksX2_bring_3 2 rfl rfl)
theorem dX2_bring_75 : decode cX2_bring 75 = .ok (.aload_n 0, 1) := dk_42 (dk_at dksX2_bring_3 3 rfl rfl)
theorem dX2_bring_76 : decode cX2_bring 76 = .ok (.getfield 81, 3) := dk_180 0 81 (dk_at dksX2_bring_3 4 rfl rfl)
theorem dX2_bring_79 : decode cX2_bring 79 = .ok (.iload_n 2, 1) := dk_28 (dk_at dksX2_bring_3 7 rfl rfl)
theorem dX2_bring_80 : decode cX2_bring 80 = .ok (.aload_n 0, 1) := dk_42 (dk_at dksX2_bring_3 8 rfl rfl)
theorem dX2_bring_81 : decode cX2_bring 81 = .ok (.getfield 31, 3) := dk_180 0 31 (dk_at dksX2_bring_3 9 rfl rfl)
theorem dX2_bring_84 : decode cX2_bring 84 = .ok (.iload_n 3, 1) := dk_29 (dk_at dksX2_bring_3 12 rfl rfl)
theorem dX2_bring_85 : decode cX2_bring 85 = .ok (.iaload, 1) := dk_46 (dk_at dksX2_bring_3 13 rfl rfl)
theorem dX2_bring_86 : decode cX2_bring 86 = .ok (.iastore, 1) := dk_79 (dk_at dksX2_bring_3 14 rfl rfl)
theorem dX2_bring_87 : decode cX2_bring 87 = .ok (.aload_n 0, 1) := dk_42 (dk_at dksX2_bring_3 15 rfl rfl)
theorem dX2_bring_88 : decode cX2_bring 88 = .ok (.getfield 84, 3) := dk_180 0 84 (dk_at dksX2_bring_3 16 rfl rfl)
theorem dX2_bring_91 : decode cX2_bring 91 = .ok (.iload_n 2, 1) := dk_28 (dk_at dksX2_bring_3 19 rfl rfl)
theorem dX2_bring_92 : decode cX2_bring 92 = .ok (.aload_n 0, 1) := dk_42 (dk_at dksX2_bring_3 20 rfl rfl)
theorem dX2_bring_93 : decode cX2_bring 93 = .ok (.getfield 25, 3) := dk_180 0 25 (dk_at dksX2_bring_3 21 rfl rfl)
theorem dX2_bring_96 : decode cX2_bring 96 = .ok (.iload_n 3, 1) := dk_29 (dk_at dksX2_bring_4 0 rfl rfl)
theorem dX2_bring_97 : decode cX2_bring 97 = .ok (.iaload, 1) := dk_46 (dk_at dksX2_bring_4 1 rfl rfl)
theorem dX2_bring_98 : decode cX2_bring 98 = .ok (.iastore, 1) := dk_79 (dk_at dksX2_bring_4 2 rfl rfl)
theorem dX2_bring_99 : decode cX2_bring 99 = .ok (.aload_n 0, 1) := dk_42 (dk_at dksX2_bring_4 3 rfl rfl)
theorem dX2_bring_100 : decode cX2_bring 100 = .ok (.getfield 87, 3) := dk_180 0 87 (dk_at dksX2_bring_4 4 rfl rfl)
theorem dX2_bring_103 : decode cX2_bring 103 = .ok (.iload_n 2, 1) := dk_28 (dk_at dksX2_bring_4 7 rfl rfl)
theorem dX2_bring_104 : decode cX2_bring 104 = .ok (.aload_n 0, 1) := dk_42 (dk_at dksX2_bring_4 8 rfl rfl)
theorem dX2_bring_105 : decode cX2_bring 105 = .ok (.getfield 28, 3) := dk_180 0 28 (dk_at dksX2_bring_4 9 rfl rfl)
theorem dX2_bring_108 : decode cX2_bring 108 = .ok (.iload_n 3, 1) := dk_29 (dk_at dksX2_bring_4 12 rfl rfl)
theorem dX2_bring_109 : decode cX2_bring 109 = .ok (.iaload, 1) := dk_46 (dk_at dksX2_bring_4 13 rfl rfl)
theorem dX2_bring_110 : decode cX2_bring 110 = .ok (.iastore, 1) := dk_79 (dk_at dksX2_bring_4 14 rfl rfl)
theorem dX2_bring_111 : decode cX2_bring 111 = .ok (.aload_n 0, 1) := dk_42 (dk_at dksX2_bring_4 15 rfl rfl)
theorem dX2_bring_112 : decode cX2_bring 112 = .ok (.getfield 90, 3) := dk_180 0 90 (dk_at dksX2_bring_4 16 rfl rfl)
theorem dX2_bring_115 : decode cX2_bring 115 = .ok (.iload_n 2, 1) := dk_28 (dk_at dksX2_bring_4 19 rfl rfl)
theorem dX2_bring_116 : decode cX2_bring 116 = .ok (.aload_n 0, 1) := dk_42 (dk_at dksX2_bring_4 20 rfl rfl)
theorem dX2_bring_117 : decode cX2_bring 117 = .ok (.getfield 40, 3) := dk_180 0 40 (dk_at dksX2_bring_4 21 rfl rfl)
theorem dX2_bring_120 : decode cX2_bring 120 = .ok (.iload_n 3, 1) := dk_29 (dk_at dksX2_bring_5 0 rfl rfl)
theorem dX2_bring_121 : decode cX2_bring 121 = .ok (.iaload, 1) := dk_46 (dk_at dksX2_bring_5 1 rfl rfl)
theorem dX2_bring_122 : decode cX2_bring 122 = .ok (.ifCond .lt 21, 3) := dk_155 0 21 (dk_at dksX2_bring_5 2 rfl rfl)
theorem dX2_bring_125 : decode cX2_bring 125 = .ok (.aload_n 0, 1) := dk_42 (dk_at dksX2_bring_5 5 rfl rfl)
theorem dX2_bring_126 : decode cX2_bring 126 = .ok (.getfield 130, 3) := dk_180 0 130 (dk_at dksX2_bring_5 6 rfl rfl)
theorem dX2_bring_129 : decode cX2_bring 129 = .ok (.aload_n 0, 1) := dk_42 (dk_at dksX2_bring_5 9 rfl rfl)
theorem dX2_bring_130 : decode cX2_bring 130 = .ok (.getfield 40, 3) := dk_180 0 40 (dk_at dksX2_bring_5 10 rfl rfl)
theorem dX2_bring_133 : decode cX2_bring 133 = .ok (.iload_n 3, 1) := dk_29 (dk_at dksX2_bring_5 13 rfl rfl)
theorem dX2_bring_134 : decode cX2_bring 134 = .ok (.iaload, 1) := dk_46 (dk_at dksX2_bring_5 14 rfl rfl)
theorem dX2_bring_135 : decode cX2_bring 135 = .ok (.baload, 1) := dk_51 (dk_at dksX2_bring_5 15 rfl rfl)
theorem dX2_bring_136 : decode cX2_bring 136 = .ok (.ifCond .ne 7, 3) := dk_154 0 7 (dk_at dksX2_bring_5 16 rfl rfl)
theorem dX2_bring_139 : decode cX2_bring 139 = .ok (.iconst 1, 1) := dk_4 (dk_at dksX2_bring_5 19 rfl rfl)
theorem dX2_bring_140 : decode cX2_bring 140 = .ok (.goto 4, 3) := dk_167 0 4 (dk_at dksX2_bring_5 20 rfl rfl)
theorem dX2_bring_143 : decode cX2_bring 143 = .ok (.iconst 0, 1) := dk_3 (dk_at dksX2_bring_5 23 rfl rfl)
theorem dX2_bring_144 : decode cX2_bring 144 = .ok (.bastore, 1) := dk_84 (dk_at dksX2_bring_6 0 rfl rfl)
theorem dX2_bring_145 : decode cX2_bring 145 = .ok (.iconst 0, 1) := dk_3 (dk_at dksX2_bring_6 1 rfl rfl)
theorem dX2_bring_146 : decode cX2_bring 146 = .ok (.istore 4, 2) := dk_54 4 (dk_at dksX2_bring_6 2 rfl rfl)
theorem dX2_bring_148 : decode cX2_bring 148 = .ok (.iload 4, 2) := dk_21 4 (dk_at dksX2_bring_6 4 rfl rfl)
theorem dX2_bring_150 : decode cX2_bring 150 = .ok (.iconst 5, 1) := dk_8 (dk_at dksX2_bring_6 6 rfl rfl)
theorem dX2_bring_151 : decode cX2_bring 151 = .ok (.if_icmp .ge 31, 3) := dk_162 0 31 (dk_at dksX2_bring_6 7 rfl rfl)
theorem dX2_bring_154 : decode cX2_bring 154 = .ok (.aload_n 0, 1) := dk_42 (dk_at dksX2_bring_6 10 rfl rfl)
theorem dX2_bring_155 : decode cX2_bring 155 = .ok (.getfield 94, 3) := dk_180 0 94 (dk_at dksX2_bring_6 11 rfl rfl)
theorem dX2_bring_158 : decode cX2_bring 158 = .ok (.iconst 5, 1) := dk_8 (dk_at dksX2_bring_6 14 rfl rfl)
theorem dX2_bring_159 : decode cX2_bring 159 = .ok (.iload_n 2, 1) := dk_28 (dk_at dksX2_bring_6 15 rfl rfl)
theorem dX2_bring_160 : decode cX2_bring 160 = .ok (.imul, 1) := dk_104 (dk_at dksX2_bring_6 16 rfl rfl)
theorem dX2_bring_161 : decode cX2_bring 161 = .ok (.iload 4, 2) := dk_21 4 (dk_at dksX2_bring_6 17 rfl rfl)
theorem dX2_bring_163 : decode cX2_bring 163 = .ok (.iadd, 1) := dk_96 (dk_at dksX2_bring_6 19 rfl rfl)
theorem dX2_bring_164 : decode cX2_bring 164 = .ok (.aload_n 0, 1) := dk_42 (dk_at dksX2_bring_6 20 rfl rfl)
theorem dX2_bring_165 : decode cX2_bring 165 = .ok (.getfield 46, 3) := dk_180 0 46 (dk_at dksX2_bring_6 21 rfl rfl)
theorem dX2_bring_168 : decode cX2_bring 168 = .ok (.iconst 5, 1) := dk_8 (dk_at dksX2_bring_7 0 rfl rfl)
theorem dX2_bring_169 : decode cX2_bring 169 = .ok (.iload_n 3, 1) := dk_29 (dk_at dksX2_bring_7 1 rfl rfl)
theorem dX2_bring_170 : decode cX2_bring 170 = .ok (.imul, 1) := dk_104 (dk_at dksX2_bring_7 2 rfl rfl)
theorem dX2_bring_171 : decode cX2_bring 171 = .ok (.iload 4, 2) := dk_21 4 (dk_at dksX2_bring_7 3 rfl rfl)
theorem dX2_bring_173 : decode cX2_bring 173 = .ok (.iadd, 1) := dk_96 (dk_at dksX2_bring_7 5 rfl rfl)
theorem dX2_bring_174 : decode cX2_bring 174 = .ok (.iaload, 1) := dk_46 (dk_at dksX2_bring_7 6 rfl rfl)
theorem dX2_bring_175 : decode cX2_bring 175 = .ok (.iastore, 1) := dk_79 (dk_at dksX2_bring_7 7 rfl rfl)
theorem dX2_bring_176 : decode cX2_bring 176 = .ok (.iinc 4 1, 3) := dk_132 4 1 (dk_at dksX2_bring_7 8 rfl rfl)
theorem dX2_bring_179 : decode cX2_bring 179 = .ok (.goto (-31), 3) := dk_167 255 225 (dk_at dksX2_bring_7 11 rfl rfl)
theorem dX2_bring_182 : decode cX2_bring 182 = .ok (.iconst 0, 1) := dk_3 (dk_at dksX2_bring_7 14 rfl rfl)
theorem dX2_bring_183 : decode cX2_bring 183 = .ok (.istore 4, 2) := dk_54 4 (dk_at dksX2_bring_7 15 rfl rfl)
theorem dX2_bring_185 : decode cX2_bring 185 = .ok (.iload 4, 2) := dk_21 4 (dk_at dksX2_bring_7 17 rfl rfl)
theorem dX2_bring_187 : decode cX2_bring 187 = .ok (.iconst 3, 1) := dk_6 (dk_at dksX2_bring_7 19 rfl rfl)
theorem dX2_bring_188 : decode cX2_bring 188 = .ok (.if_icmp .ge 53, 3) := dk_162 0 53 (dk_at dksX2_bring_7 20 rfl rfl)
theorem dX2_bring_191 : decode cX2_bring 191 = .ok (.aload_n 0, 1) := dk_42 (dk_at dksX2_bring_7 23 rfl rfl)
theorem dX2_bring_192 : decode cX2_bring 192 = .ok (.getfield 97, 3) := dk_180 0 97 (dk_at dksX2_bring_8 0 rfl rfl)
theorem dX2_bring_195 : decode cX2_bring 195 = .ok (.iconst 3, 1) := dk_6 (dk_at dksX2_bring_8 3 rfl rfl)
theorem dX2_bring_196 : decode cX2_bring 196 = .ok (.iload_n 2, 1) := dk_28 (dk_at dksX2_bring_8 4 rfl rfl)
theorem dX2_bring_197 : decode cX2_bring 197 = .ok (.imul, 1) := dk_104 (dk_at dksX2_bring_8 5 rfl rfl)
theorem dX2_bring_198 : decode cX2_bring 198 = .ok (.iload 4, 2) := dk_21 4 (dk_at dksX2_bring_8 6 rfl rfl)
theorem dX2_bring_200 : decode cX2_bring 200 = .ok (.iadd, 1) := dk_96 (dk_at dksX2_bring_8 8 rfl rfl)
theorem dX2_bring_201 : decode cX2_bring 201 = .ok (.aload_n 0, 1) := dk_42 (dk_at dksX2_bring_8 9 rfl rfl)
theorem dX2_bring_202 : decode cX2_bring 202 = .ok (.getfield 49, 3) := dk_180 0 49 (dk_at dksX2_bring_8 10 rfl rfl)
theorem dX2_bring_205 : decode cX2_bring 205 = .ok (.iconst 3, 1) := dk_6 (dk_at dksX2_bring_8 13 rfl rfl)
theorem dX2_bring_206 : decode cX2_bring 206 = .ok (.iload_n 3, 1) := dk_29 (dk_at dksX2_bring_8 14 rfl rfl)
theorem dX2_bring_207 : decode cX2_bring 207 = .ok (.imul, 1) := dk_104 (dk_at dksX2_bring_8 15 rfl rfl)
theorem dX2_bring_208 : decode cX2_bring 208 = .ok (.iload 4, 2) := dk_21 4 (dk_at dksX2_bring_8 16 rfl rfl)
theorem dX2_bring_210 : decode cX2_bring 210 = .ok (.iadd, 1) := dk_96 (dk_at dksX2_bring_8 18 rfl rfl)
theorem dX2_bring_211 : decode cX2_bring 211 = .ok (.iaload, 1) := dk_46 (dk_at dksX2_bring_8 19 rfl rfl)
theorem dX2_bring_212 : decode cX2_bring 212 = .ok (.iastore, 1) := dk_79 (dk_at dksX2_bring_8 20 rfl rfl)
theorem dX2_bring_213 : decode cX2_bring 213 = .ok (.aload_n 0, 1) := dk_42 (dk_at dksX2_bring_8 21 rfl rfl)
theorem dX2_bring_214 : decode cX2_bring 214 = .ok (.getfield 100, 3) := dk_180 0 100 (dk_at dksX2_bring_9 0 rfl rfl)
theorem dX2_bring_217 : decode cX2_bring 217 = .ok (.iconst 3, 1) := dk_6 (dk_at dksX2_bring_9 3 rfl rfl)
theorem dX2_bring_218 : decode cX2_bring 218 = .ok (.iload_n 2, 1) := dk_28 (dk_at dksX2_bring_9 4 rfl rfl)
theorem dX2_bring_219 : decode cX2_bring 219 = .ok (.imul, 1) := dk_104 (dk_at dksX2_bring_9 5 rfl rfl)
theorem dX2_bring_220 : decode cX2_bring 220 = .ok (.iload 4, 2) := dk_21 4 (dk_at dksX2_bring_9 6 rfl rfl)
theorem dX2_bring_222 : decode cX2_bring 222 = .ok (.iadd, 1) := dk_96 (dk_at dksX2_bring_9 8 rfl rfl)
theorem dX2_bring_223 : decode cX2_bring 223 = .ok (.aload_n 0, 1) := dk_42 (dk_at dksX2_bring_9 9 rfl rfl)
theorem dX2_bring_224 : decode cX2_bring 224 = .ok (.getfield 52, 3) := dk_180 0 52 (dk_at dksX2_bring_9 10 rfl rfl)
theorem dX2_bring_227 : decode cX2_bring 227 = .ok (.iconst 3, 1) := dk_6 (dk_at dksX2_bring_9 13 rfl rfl)
theorem dX2_bring_228 : decode cX2_bring 228 = .ok (.iload_n 3, 1) := dk_29 (dk_at dksX2_bring_9 14 rfl rfl)
theorem dX2_bring_229 : decode cX2_bring 229 = .ok (.imul, 1) := dk_104 (dk_at dksX2_bring_9 15 rfl rfl)
theorem dX2_bring_230 : decode cX2_bring 230 = .ok (.iload 4, 2) := dk_21 4 (dk_at dksX2_bring_9 16 rfl rfl)
theorem dX2_bring_232 : decode cX2_bring 232 = .ok (.iadd, 1) := dk_96 (dk_at dksX2_bring_9 18 rfl rfl)
theorem dX2_bring_233 : decode cX2_bring 233 = .ok (.iaload, 1) := dk_46 (dk_at dksX2_bring_9 19 rfl rfl)
theorem dX2_bring_234 : decode cX2_bring 234 = .ok (.iastore, 1) := dk_79 (dk_at dksX2_bring_9 20 rfl rfl)
theorem dX2_bring_235 : decode cX2_bring 235 = .ok (.iinc 4 1, 3) := dk_132 4 1 (dk_at dksX2_bring_9 21 rfl rfl)
theorem dX2_bring_238 : decode cX2_bring 238 = .ok (.goto (-53), 3) := dk_167 255 203 (dk_at dksX2_bring_10 0 rfl rfl)
theorem dX2_bring_241 : decode cX2_bring 241 = .ok (.iinc 2 1, 3) := dk_132 2 1 (dk_at dksX2_bring_10 3 rfl rfl)
theorem dX2_bring_244 : decode cX2_bring 244 = .ok (.goto (-232), 3) := dk_167 255 24 (dk_at dksX2_bring_10 6 rfl rfl)
theorem dX2_bring_247 : decode cX2_bring 247 = .ok (.return_, 1) := dk_177 (dk_at dksX2_bring_10 9 rfl rfl)
abbrev cX2_findAsked : ByteArray := prog_23_method_39_code
def yX2_findAsked : MethodName := ⟨RX2, "findAsked", "()V"⟩
def dkwX2_findAsked_6 : List UInt8 := [181, 1, 101, 132, 2, 1, 167, 255, 131, 132, 1, 1, 167, 255, 115, 177]
abbrev dktX2_findAsked_6 : List UInt8 := dkwX2_findAsked_6 ++ []
def dkwX2_findAsked_5 : List UInt8 := [180, 1, 101, 29, 104, 17, 4, 0, 164, 0, 9, 17, 4, 1, 167, 0, 9, 42, 180, 1, 101, 29, 104]
abbrev dktX2_findAsked_5 : List UInt8 := dkwX2_findAsked_5 ++ dktX2_findAsked_6
def dkwX2_findAsked_4 : List UInt8 := [42, 180, 0, 106, 42, 180, 1, 98, 29, 79, 42, 89, 180, 1, 98, 4, 96, 181, 1, 98, 42, 42]
abbrev dktX2_findAsked_4 : List UInt8 := dkwX2_findAsked_4 ++ dktX2_findAsked_5
def dkwX2_findAsked_3 : List UInt8 := [4, 62, 29, 5, 162, 0, 6, 167, 0, 65, 42, 180, 0, 103, 42, 180, 1, 98, 7, 27, 104, 28, 96, 79]
abbrev dktX2_findAsked_3 : List UInt8 := dkwX2_findAsked_3 ++ dktX2_findAsked_4
def dkwX2_findAsked_2 : List UInt8 := [104, 28, 96, 46, 100, 4, 96, 167, 0, 18, 42, 180, 0, 75, 27, 46, 4, 160, 0, 7, 5, 167, 0, 4]
abbrev dktX2_findAsked_2 : List UInt8 := dkwX2_findAsked_2 ++ dktX2_findAsked_3
def dkwX2_findAsked_1 : List UInt8 := [162, 0, 126, 28, 6, 162, 0, 29, 42, 180, 0, 100, 6, 27, 104, 28, 96, 46, 42, 180, 0, 97, 6, 27]
abbrev dktX2_findAsked_1 : List UInt8 := dkwX2_findAsked_1 ++ dktX2_findAsked_2
def dkwX2_findAsked_0 : List UInt8 := [42, 3, 181, 1, 98, 42, 4, 181, 1, 101, 3, 60, 27, 42, 180, 1, 95, 162, 0, 139, 3, 61, 28, 7]
abbrev dktX2_findAsked_0 : List UInt8 := dkwX2_findAsked_0 ++ dktX2_findAsked_1
theorem dksX2_findAsked_0 : cX2_findAsked.data.toList.drop 0 = dktX2_findAsked_0 := by decide +kernel
theorem dksX2_findAsked_1 : cX2_findAsked.data.toList.drop 24 = dktX2_findAsked_1 := dk_seg dksX2_findAsked_0 24 rfl rfl
theorem dksX2_findAsked_2 : cX2_findAsked.data.toList.drop 48 = dktX2_findAsked_2 := dk_seg dksX2_findAsked_1 24 rfl rfl
theorem dksX2_findAsked_3 : cX2_findAsked.data.toList.drop 72 = dktX2_findAsked_3 := dk_seg dksX2_findAsked_2 24 rfl rfl
theorem dksX2_findAsked_4 : cX2_findAsked.data.toList.drop 96 = dktX2_findAsked_4 := dk_seg dksX2_findAsked_3 24 rfl rfl
theorem dksX2_findAsked_5 : cX2_findAsked.data.toList.drop 118 = dktX2_findAsked_5 := dk_seg dksX2_findAsked_4 22 rfl rfl
theorem dksX2_findAsked_6 : cX2_findAsked.data.toList.drop 141 = dktX2_findAsked_6 := dk_seg dksX2_findAsked_5 23 rfl rfl
theorem dX2_findAsked_0 : decode cX2_findAsked 0 = .ok (.aload_n 0, 1) := dk_42 (dk_at dksX2_findAsked_0 0 rfl rfl)
theorem dX2_findAsked_1 : decode cX2_findAsked 1 = .ok (.iconst 0, 1) := dk_3 (dk_at dksX2_findAsked_0 1 rfl rfl)
theorem dX2_findAsked_2 : decode cX2_findAsked 2 = .ok (.putfield 354, 3) := dk_181 1 98 (dk_at dksX2_findAsked_0 2 rfl rfl)
theorem dX2_findAsked_5 : decode cX2_findAsked 5 = .ok (.aload_n 0, 1) := dk_42 (dk_at dksX2_findAsked_0 5 rfl rfl)
theorem dX2_findAsked_6 : decode cX2_findAsked 6 = .ok (.iconst 1, 1) := dk_4 (dk_at dksX2_findAsked_0 6 rfl rfl)
theorem dX2_findAsked_7 : decode cX2_findAsked 7 = .ok (.putfield 357, 3) := dk_181 1 101 (dk_at dksX2_findAsked_0 7 rfl rfl)
theorem dX2_findAsked_10 : decode cX2_findAsked 10 = .ok (.iconst 0, 1) := dk_3 (dk_at dksX2_findAsked_0 10 rfl rfl)
theorem dX2_findAsked_11 : decode cX2_findAsked 11 = .ok (.istore_n 1, 1) := dk_60 (dk_at dksX2_findAsked_0 11 rfl rfl)
theorem dX2_findAsked_12 : decode cX2_findAsked 12 = .ok (.iload_n 1, 1) := dk_27 (dk_at dksX2_findAsked_0 12 rfl rfl)
theorem dX2_findAsked_13 : decode cX2_findAsked 13 = .ok (.aload_n 0, 1) := dk_42 (dk_at dksX2_findAsked_0 13 rfl rfl)
theorem dX2_findAsked_14 : decode cX2_findAsked 14 = .ok (.getfield 351, 3) := dk_180 1 95 (dk_at dksX2_findAsked_0 14 rfl rfl)
theorem dX2_findAsked_17 : decode cX2_findAsked 17 = .ok (.if_icmp .ge 139, 3) := dk_162 0 139 (dk_at dksX2_findAsked_0 17 rfl rfl)
theorem dX2_findAsked_20 : decode cX2_findAsked 20 = .ok (.iconst 0, 1) := dk_3 (dk_at dksX2_findAsked_0 20 rfl rfl)
theorem dX2_findAsked_21 : decode cX2_findAsked 21 = .ok (.istore_n 2, 1) := dk_61 (dk_at dksX2_findAsked_0 21 rfl rfl)
theorem dX2_findAsked_22 : decode cX2_findAsked 22 = .ok (.iload_n 2, 1) := dk_28 (dk_at dksX2_findAsked_0 22 rfl rfl)
theorem dX2_findAsked_23 : decode cX2_findAsked 23 = .ok (.iconst 4, 1) := dk_7 (dk_at dksX2_findAsked_0 23 rfl rfl)
theorem dX2_findAsked_24 : decode cX2_findAsked 24 = .ok (.if_icmp .ge 126, 3) := dk_162 0 126 (dk_at dksX2_findAsked_1 0 rfl rfl)
theorem dX2_findAsked_27 : decode cX2_findAsked 27 = .ok (.iload_n 2, 1) := dk_28 (dk_at dksX2_findAsked_1 3 rfl rfl)
theorem dX2_findAsked_28 : decode cX2_findAsked 28 = .ok (.iconst 3, 1) := dk_6 (dk_at dksX2_findAsked_1 4 rfl rfl)
theorem dX2_findAsked_29 : decode cX2_findAsked 29 = .ok (.if_icmp .ge 29, 3) := dk_162 0 29 (dk_at dksX2_findAsked_1 5 rfl rfl)
theorem dX2_findAsked_32 : decode cX2_findAsked 32 = .ok (.aload_n 0, 1) := dk_42 (dk_at dksX2_findAsked_1 8 rfl rfl)
theorem dX2_findAsked_33 : decode cX2_findAsked 33 = .ok (.getfield 100, 3) := dk_180 0 100 (dk_at dksX2_findAsked_1 9 rfl rfl)
theorem dX2_findAsked_36 : decode cX2_findAsked 36 = .ok (.iconst 3, 1) := dk_6 (dk_at dksX2_findAsked_1 12 rfl rfl)
theorem dX2_findAsked_37 : decode cX2_findAsked 37 = .ok (.iload_n 1, 1) := dk_27 (dk_at dksX2_findAsked_1 13 rfl rfl)
theorem dX2_findAsked_38 : decode cX2_findAsked 38 = .ok (.imul, 1) := dk_104 (dk_at dksX2_findAsked_1 14 rfl rfl)
theorem dX2_findAsked_39 : decode cX2_findAsked 39 = .ok (.iload_n 2, 1) := dk_28 (dk_at dksX2_findAsked_1 15 rfl rfl)
theorem dX2_findAsked_40 : decode cX2_findAsked 40 = .ok (.iadd, 1) := dk_96 (dk_at dksX2_findAsked_1 16 rfl rfl)
theorem dX2_findAsked_41 : decode cX2_findAsked 41 = .ok (.iaload, 1) := dk_46 (dk_at dksX2_findAsked_1 17 rfl rfl)
theorem dX2_findAsked_42 : decode cX2_findAsked 42 = .ok (.aload_n 0, 1) := dk_42 (dk_at dksX2_findAsked_1 18 rfl rfl)
theorem dX2_findAsked_43 : decode cX2_findAsked 43 = .ok (.getfield 97, 3) := dk_180 0 97 (dk_at dksX2_findAsked_1 19 rfl rfl)
theorem dX2_findAsked_46 : decode cX2_findAsked 46 = .ok (.iconst 3, 1) := dk_6 (dk_at dksX2_findAsked_1 22 rfl rfl)
theorem dX2_findAsked_47 : decode cX2_findAsked 47 = .ok (.iload_n 1, 1) := dk_27 (dk_at dksX2_findAsked_1 23 rfl rfl)
theorem dX2_findAsked_48 : decode cX2_findAsked 48 = .ok (.imul, 1) := dk_104 (dk_at dksX2_findAsked_2 0 rfl rfl)
theorem dX2_findAsked_49 : decode cX2_findAsked 49 = .ok (.iload_n 2, 1) := dk_28 (dk_at dksX2_findAsked_2 1 rfl rfl)
theorem dX2_findAsked_50 : decode cX2_findAsked 50 = .ok (.iadd, 1) := dk_96 (dk_at dksX2_findAsked_2 2 rfl rfl)
theorem dX2_findAsked_51 : decode cX2_findAsked 51 = .ok (.iaload, 1) := dk_46 (dk_at dksX2_findAsked_2 3 rfl rfl)
theorem dX2_findAsked_52 : decode cX2_findAsked 52 = .ok (.isub, 1) := dk_100 (dk_at dksX2_findAsked_2 4 rfl rfl)
theorem dX2_findAsked_53 : decode cX2_findAsked 53 = .ok (.iconst 1, 1) := dk_4 (dk_at dksX2_findAsked_2 5 rfl rfl)
theorem dX2_findAsked_54 : decode cX2_findAsked 54 = .ok (.iadd, 1) := dk_96 (dk_at dksX2_findAsked_2 6 rfl rfl)
theorem dX2_findAsked_55 : decode cX2_findAsked 55 = .ok (.goto 18, 3) := dk_167 0 18 (dk_at dksX2_findAsked_2 7 rfl rfl)
theorem dX2_findAsked_58 : decode cX2_findAsked 58 = .ok (.aload_n 0, 1) := dk_42 (dk_at dksX2_findAsked_2 10 rfl rfl)
theorem dX2_findAsked_59 : decode cX2_findAsked 59 = .ok (.getfield 75, 3) := dk_180 0 75 (dk_at dksX2_findAsked_2 11 rfl rfl)
theorem dX2_findAsked_62 : decode cX2_findAsked 62 = .ok (.iload_n 1, 1) := dk_27 (dk_at dksX2_findAsked_2 14 rfl rfl)
theorem dX2_findAsked_63 : decode cX2_findAsked 63 = .ok (.iaload, 1) := dk_46 (dk_at dksX2_findAsked_2 15 rfl rfl)
theorem dX2_findAsked_64 : decode cX2_findAsked 64 = .ok (.iconst 1, 1) := dk_4 (dk_at dksX2_findAsked_2 16 rfl rfl)
theorem dX2_findAsked_65 : decode cX2_findAsked 65 = .ok (.if_icmp .ne 7, 3) := dk_160 0 7 (dk_at dksX2_findAsked_2 17 rfl rfl)
theorem dX2_findAsked_68 : decode cX2_findAsked 68 = .ok (.iconst 2, 1) := dk_5 (dk_at dksX2_findAsked_2 20 rfl rfl)
theorem dX2_findAsked_69 : decode cX2_findAsked 69 = .ok (.goto 4, 3) := dk_167 0 4 (dk_at dksX2_findAsked_2 21 rfl rfl)
theorem dX2_findAsked_72 : decode cX2_findAsked 72 = .ok (.iconst 1, 1) := dk_4 (dk_at dksX2_findAsked_3 0 rfl rfl)
theorem dX2_findAsked_73 : decode cX2_findAsked 73 = .ok (.istore_n 3, 1) := dk_62 (dk_at dksX2_findAsked_3 1 rfl rfl)
theorem dX2_findAsked_74 : decode cX2_findAsked 74 = .ok (.iload_n 3, 1) := dk_29 (dk_at dksX2_findAsked_3 2 rfl rfl)
theorem dX2_findAsked_75 : decode cX2_findAsked 75 = .ok (.iconst 2, 1) := dk_5 (dk_at dksX2_findAsked_3 3 rfl rfl)
theorem dX2_findAsked_76 : decode cX2_findAsked 76 = .ok (.if_icmp .ge 6, 3) := dk_162 0 6 (dk_at dksX2_findAsked_3 4 rfl rfl)
theorem dX2_findAsked_79 : decode cX2_findAsked 79 = .ok (.goto 65, 3) := dk_167 0 65 (dk_at dksX2_findAsked_3 7 rfl rfl)
theorem dX2_findAsked_82 : decode cX2_findAsked 82 = .ok (.aload_n 0, 1) := dk_42 (dk_at dksX2_findAsked_3 10 rfl rfl)
theorem dX2_findAsked_83 : decode cX2_findAsked 83 = .ok (.getfield 103, 3) := dk_180 0 103 (dk_at dksX2_findAsked_3 11 rfl rfl)
theorem dX2_findAsked_86 : decode cX2_findAsked 86 = .ok (.aload_n 0, 1) := dk_42 (dk_at dksX2_findAsked_3 14 rfl rfl)
theorem dX2_findAsked_87 : decode cX2_findAsked 87 = .ok (.getfield 354, 3) := dk_180 1 98 (dk_at dksX2_findAsked_3 15 rfl rfl)
theorem dX2_findAsked_90 : decode cX2_findAsked 90 = .ok (.iconst 4, 1) := dk_7 (dk_at dksX2_findAsked_3 18 rfl rfl)
theorem dX2_findAsked_91 : decode cX2_findAsked 91 = .ok (.iload_n 1, 1) := dk_27 (dk_at dksX2_findAsked_3 19 rfl rfl)
theorem dX2_findAsked_92 : decode cX2_findAsked 92 = .ok (.imul, 1) := dk_104 (dk_at dksX2_findAsked_3 20 rfl rfl)
theorem dX2_findAsked_93 : decode cX2_findAsked 93 = .ok (.iload_n 2, 1) := dk_28 (dk_at dksX2_findAsked_3 21 rfl rfl)
theorem dX2_findAsked_94 : decode cX2_findAsked 94 = .ok (.iadd, 1) := dk_96 (dk_at dksX2_findAsked_3 22 rfl rfl)
theorem dX2_findAsked_95 : decode cX2_findAsked 95 = .ok (.iastore, 1) := dk_79 (dk_at dksX2_findAsked_3 23 rfl rfl)
theorem dX2_findAsked_96 : decode cX2_findAsked 96 = .ok (.aload_n 0, 1) := dk_42 (dk_at dksX2_findAsked_4 0 rfl rfl)
theorem dX2_findAsked_97 : decode cX2_findAsked 97 = .ok (.getfield 106, 3) := dk_180 0 106 (dk_at dksX2_findAsked_4 1 rfl rfl)
theorem dX2_findAsked_100 : decode cX2_findAsked 100 = .ok (.aload_n 0, 1) := dk_42 (dk_at dksX2_findAsked_4 4 rfl rfl)
theorem dX2_findAsked_101 : decode cX2_findAsked 101 = .ok (.getfield 354, 3) := dk_180 1 98 (dk_at dksX2_findAsked_4 5 rfl rfl)
theorem dX2_findAsked_104 : decode cX2_findAsked 104 = .ok (.iload_n 3, 1) := dk_29 (dk_at dksX2_findAsked_4 8 rfl rfl)
theorem dX2_findAsked_105 : decode cX2_findAsked 105 = .ok (.iastore, 1) := dk_79 (dk_at dksX2_findAsked_4 9 rfl rfl)
theorem dX2_findAsked_106 : decode cX2_findAsked 106 = .ok (.aload_n 0, 1) := dk_42 (dk_at dksX2_findAsked_4 10 rfl rfl)
theorem dX2_findAsked_107 : decode cX2_findAsked 107 = .ok (.dup, 1) := dk_89 (dk_at dksX2_findAsked_4 11 rfl rfl)
theorem dX2_findAsked_108 : decode cX2_findAsked 108 = .ok (.getfield 354, 3) := dk_180 1 98 (dk_at dksX2_findAsked_4 12 rfl rfl)
theorem dX2_findAsked_111 : decode cX2_findAsked 111 = .ok (.iconst 1, 1) := dk_4 (dk_at dksX2_findAsked_4 15 rfl rfl)
theorem dX2_findAsked_112 : decode cX2_findAsked 112 = .ok (.iadd, 1) := dk_96 (dk_at dksX2_findAsked_4 16 rfl rfl)
theorem dX2_findAsked_113 : decode cX2_findAsked 113 = .ok (.putfield 354, 3) := dk_181 1 98 (dk_at dksX2_findAsked_4 17 rfl rfl)
theorem dX2_findAsked_116 : decode cX2_findAsked 116 = .ok (.aload_n 0, 1) := dk_42 (dk_at dksX2_findAsked_4 20 rfl rfl)
theorem dX2_findAsked_117 : decode cX2_findAsked 117 = .ok (.aload_n 0, 1) := dk_42 (dk_at dksX2_findAsked_4 21 rfl rfl)
theorem dX2_findAsked_118 : decode cX2_findAsked 118 = .ok (.getfield 357, 3) := dk_180 1 101 (dk_at dksX2_findAsked_5 0 rfl rfl)
theorem dX2_findAsked_121 : decode cX2_findAsked 121 = .ok (.iload_n 3, 1) := dk_29 (dk_at dksX2_findAsked_5 3 rfl rfl)
theorem dX2_findAsked_122 : decode cX2_findAsked 122 = .ok (.imul, 1) := dk_104 (dk_at dksX2_findAsked_5 4 rfl rfl)
theorem dX2_findAsked_123 : decode cX2_findAsked 123 = .ok (.sipush 1024, 3) := dk_17 4 0 (dk_at dksX2_findAsked_5 5 rfl rfl)
theorem dX2_findAsked_126 : decode cX2_findAsked 126 = .ok (.if_icmp .le 9, 3) := dk_164 0 9 (dk_at dksX2_findAsked_5 8 rfl rfl)
theorem dX2_findAsked_129 : decode cX2_findAsked 129 = .ok (.sipush 1025, 3) := dk_17 4 1 (dk_at dksX2_findAsked_5 11 rfl rfl)
theorem dX2_findAsked_132 : decode cX2_findAsked 132 = .ok (.goto 9, 3) := dk_167 0 9 (dk_at dksX2_findAsked_5 14 rfl rfl)
theorem dX2_findAsked_135 : decode cX2_findAsked 135 = .ok (.aload_n 0, 1) := dk_42 (dk_at dksX2_findAsked_5 17 rfl rfl)
theorem dX2_findAsked_136 : decode cX2_findAsked 136 = .ok (.getfield 357, 3) := dk_180 1 101 (dk_at dksX2_findAsked_5 18 rfl rfl)
theorem dX2_findAsked_139 : decode cX2_findAsked 139 = .ok (.iload_n 3, 1) := dk_29 (dk_at dksX2_findAsked_5 21 rfl rfl)
theorem dX2_findAsked_140 : decode cX2_findAsked 140 = .ok (.imul, 1) := dk_104 (dk_at dksX2_findAsked_5 22 rfl rfl)
theorem dX2_findAsked_141 : decode cX2_findAsked 141 = .ok (.putfield 357, 3) := dk_181 1 101 (dk_at dksX2_findAsked_6 0 rfl rfl)
theorem dX2_findAsked_144 : decode cX2_findAsked 144 = .ok (.iinc 2 1, 3) := dk_132 2 1 (dk_at dksX2_findAsked_6 3 rfl rfl)
theorem dX2_findAsked_147 : decode cX2_findAsked 147 = .ok (.goto (-125), 3) := dk_167 255 131 (dk_at dksX2_findAsked_6 6 rfl rfl)
theorem dX2_findAsked_150 : decode cX2_findAsked 150 = .ok (.iinc 1 1, 3) := dk_132 1 1 (dk_at dksX2_findAsked_6 9 rfl rfl)
theorem dX2_findAsked_153 : decode cX2_findAsked 153 = .ok (.goto (-141), 3) := dk_167 255 115 (dk_at dksX2_findAsked_6 12 rfl rfl)
theorem dX2_findAsked_156 : decode cX2_findAsked 156 = .ok (.return_, 1) := dk_177 (dk_at dksX2_findAsked_6 15 rfl rfl)
abbrev cX2_isLooked : ByteArray := prog_23_method_40_code
def yX2_isLooked : MethodName := ⟨RX2, "isLooked", "()Z"⟩
def dkwX2_isLooked_0 : List UInt8 := [42, 180, 1, 101, 17, 4, 0, 163, 0, 7, 4, 167, 0, 4, 3, 172]
abbrev dktX2_isLooked_0 : List UInt8 := dkwX2_isLooked_0 ++ []
theorem dksX2_isLooked_0 : cX2_isLooked.data.toList.drop 0 = dktX2_isLooked_0 := by decide +kernel
theorem dX2_isLooked_0 : decode cX2_isLooked 0 = .ok (.aload_n 0, 1) := dk_42 (dk_at dksX2_isLooked_0 0 rfl rfl)
theorem dX2_isLooked_1 : decode cX2_isLooked 1 = .ok (.getfield 357, 3) := dk_180 1 101 (dk_at dksX2_isLooked_0 1 rfl rfl)
theorem dX2_isLooked_4 : decode cX2_isLooked 4 = .ok (.sipush 1024, 3) := dk_17 4 0 (dk_at dksX2_isLooked_0 4 rfl rfl)
theorem dX2_isLooked_7 : decode cX2_isLooked 7 = .ok (.if_icmp .gt 7, 3) := dk_163 0 7 (dk_at dksX2_isLooked_0 7 rfl rfl)
theorem dX2_isLooked_10 : decode cX2_isLooked 10 = .ok (.iconst 1, 1) := dk_4 (dk_at dksX2_isLooked_0 10 rfl rfl)
theorem dX2_isLooked_11 : decode cX2_isLooked 11 = .ok (.goto 4, 3) := dk_167 0 4 (dk_at dksX2_isLooked_0 11 rfl rfl)
theorem dX2_isLooked_14 : decode cX2_isLooked 14 = .ok (.iconst 0, 1) := dk_3 (dk_at dksX2_isLooked_0 14 rfl rfl)
theorem dX2_isLooked_15 : decode cX2_isLooked 15 = .ok (.ireturn, 1) := dk_172 (dk_at dksX2_isLooked_0 15 rfl rfl)
abbrev cX2_hour : ByteArray := prog_23_method_65_code
def yX2_hour : MethodName := ⟨RX2, "hour", "(IIII)I"⟩
def dkwX2_hour_3 : List UInt8 := [182, 1, 107, 172]
abbrev dktX2_hour_3 : List UInt8 := dkwX2_hour_3 ++ []
def dkwX2_hour_2 : List UInt8 := [155, 0, 11, 29, 42, 180, 1, 95, 161, 0, 6, 16, 254, 172, 42, 28, 182, 1, 156, 42, 29, 21, 4]
abbrev dktX2_hour_2 : List UInt8 := dkwX2_hour_2 ++ dktX2_hour_3
def dkwX2_hour_1 : List UInt8 := [172, 42, 27, 182, 1, 187, 42, 182, 1, 171, 153, 0, 23, 28, 42, 180, 1, 101, 162, 0, 15, 29]
abbrev dktX2_hour_1 : List UInt8 := dkwX2_hour_1 ++ dktX2_hour_2
def dkwX2_hour_0 : List UInt8 := [42, 27, 182, 1, 43, 153, 0, 17, 28, 155, 0, 13, 21, 4, 3, 5, 184, 0, 176, 154, 0, 6, 16, 254]
abbrev dktX2_hour_0 : List UInt8 := dkwX2_hour_0 ++ dktX2_hour_1
theorem dksX2_hour_0 : cX2_hour.data.toList.drop 0 = dktX2_hour_0 := by decide +kernel
theorem dksX2_hour_1 : cX2_hour.data.toList.drop 24 = dktX2_hour_1 := dk_seg dksX2_hour_0 24 rfl rfl
theorem dksX2_hour_2 : cX2_hour.data.toList.drop 46 = dktX2_hour_2 := dk_seg dksX2_hour_1 22 rfl rfl
theorem dksX2_hour_3 : cX2_hour.data.toList.drop 69 = dktX2_hour_3 := dk_seg dksX2_hour_2 23 rfl rfl
theorem dX2_hour_0 : decode cX2_hour 0 = .ok (.aload_n 0, 1) := dk_42 (dk_at dksX2_hour_0 0 rfl rfl)
theorem dX2_hour_1 : decode cX2_hour 1 = .ok (.iload_n 1, 1) := dk_27 (dk_at dksX2_hour_0 1 rfl rfl)
theorem dX2_hour_2 : decode cX2_hour 2 = .ok (.invokevirtual 299, 3) := dk_182 1 43 (dk_at dksX2_hour_0 2 rfl rfl)
theorem dX2_hour_5 : decode cX2_hour 5 = .ok (.ifCond .eq 17, 3) := dk_153 0 17 (dk_at dksX2_hour_0 5 rfl rfl)
theorem dX2_hour_8 : decode cX2_hour 8 = .ok (.iload_n 2, 1) := dk_28 (dk_at dksX2_hour_0 8 rfl rfl)
theorem dX2_hour_9 : decode cX2_hour 9 = .ok (.ifCond .lt 13, 3) := dk_155 0 13 (dk_at dksX2_hour_0 9 rfl rfl)
theorem dX2_hour_12 : decode cX2_hour 12 = .ok (.iload 4, 2) := dk_21 4 (dk_at dksX2_hour_0 12 rfl rfl)
theorem dX2_hour_14 : decode cX2_hour 14 = .ok (.iconst 0, 1) := dk_3 (dk_at dksX2_hour_0 14 rfl rfl)
theorem dX2_hour_15 : decode cX2_hour 15 = .ok (.iconst 2, 1) := dk_5 (dk_at dksX2_hour_0 15 rfl rfl)
theorem dX2_hour_16 : decode cX2_hour 16 = .ok (.invokestatic 176, 3) := dk_184 0 176 (dk_at dksX2_hour_0 16 rfl rfl)
theorem dX2_hour_19 : decode cX2_hour 19 = .ok (.ifCond .ne 6, 3) := dk_154 0 6 (dk_at dksX2_hour_0 19 rfl rfl)
theorem dX2_hour_22 : decode cX2_hour 22 = .ok (.bipush (-2), 2) := dk_16 254 (dk_at dksX2_hour_0 22 rfl rfl)
theorem dX2_hour_24 : decode cX2_hour 24 = .ok (.ireturn, 1) := dk_172 (dk_at dksX2_hour_1 0 rfl rfl)
theorem dX2_hour_25 : decode cX2_hour 25 = .ok (.aload_n 0, 1) := dk_42 (dk_at dksX2_hour_1 1 rfl rfl)
theorem dX2_hour_26 : decode cX2_hour 26 = .ok (.iload_n 1, 1) := dk_27 (dk_at dksX2_hour_1 2 rfl rfl)
theorem dX2_hour_27 : decode cX2_hour 27 = .ok (.invokevirtual 443, 3) := dk_182 1 187 (dk_at dksX2_hour_1 3 rfl rfl)
theorem dX2_hour_30 : decode cX2_hour 30 = .ok (.aload_n 0, 1) := dk_42 (dk_at dksX2_hour_1 6 rfl rfl)
theorem dX2_hour_31 : decode cX2_hour 31 = .ok (.invokevirtual 427, 3) := dk_182 1 171 (dk_at dksX2_hour_1 7 rfl rfl)
theorem dX2_hour_34 : decode cX2_hour 34 = .ok (.ifCond .eq 23, 3) := dk_153 0 23 (dk_at dksX2_hour_1 10 rfl rfl)
theorem dX2_hour_37 : decode cX2_hour 37 = .ok (.iload_n 2, 1) := dk_28 (dk_at dksX2_hour_1 13 rfl rfl)
theorem dX2_hour_38 : decode cX2_hour 38 = .ok (.aload_n 0, 1) := dk_42 (dk_at dksX2_hour_1 14 rfl rfl)
theorem dX2_hour_39 : decode cX2_hour 39 = .ok (.getfield 357, 3) := dk_180 1 101 (dk_at dksX2_hour_1 15 rfl rfl)
theorem dX2_hour_42 : decode cX2_hour 42 = .ok (.if_icmp .ge 15, 3) := dk_162 0 15 (dk_at dksX2_hour_1 18 rfl rfl)
theorem dX2_hour_45 : decode cX2_hour 45 = .ok (.iload_n 3, 1) := dk_29 (dk_at dksX2_hour_1 21 rfl rfl)
theorem dX2_hour_46 : decode cX2_hour 46 = .ok (.ifCond .lt 11, 3) := dk_155 0 11 (dk_at dksX2_hour_2 0 rfl rfl)
theorem dX2_hour_49 : decode cX2_hour 49 = .ok (.iload_n 3, 1) := dk_29 (dk_at dksX2_hour_2 3 rfl rfl)
theorem dX2_hour_50 : decode cX2_hour 50 = .ok (.aload_n 0, 1) := dk_42 (dk_at dksX2_hour_2 4 rfl rfl)
theorem dX2_hour_51 : decode cX2_hour 51 = .ok (.getfield 351, 3) := dk_180 1 95 (dk_at dksX2_hour_2 5 rfl rfl)
theorem dX2_hour_54 : decode cX2_hour 54 = .ok (.if_icmp .lt 6, 3) := dk_161 0 6 (dk_at dksX2_hour_2 8 rfl rfl)
theorem dX2_hour_57 : decode cX2_hour 57 = .ok (.bipush (-2), 2) := dk_16 254 (dk_at dksX2_hour_2 11 rfl rfl)
theorem dX2_hour_59 : decode cX2_hour 59 = .ok (.ireturn, 1) := dk_172 (dk_at dksX2_hour_2 13 rfl rfl)
theorem dX2_hour_60 : decode cX2_hour 60 = .ok (.aload_n 0, 1) := dk_42 (dk_at dksX2_hour_2 14 rfl rfl)
theorem dX2_hour_61 : decode cX2_hour 61 = .ok (.iload_n 2, 1) := dk_28 (dk_at dksX2_hour_2 15 rfl rfl)
theorem dX2_hour_62 : decode cX2_hour 62 = .ok (.invokevirtual 412, 3) := dk_182 1 156 (dk_at dksX2_hour_2 16 rfl rfl)
theorem dX2_hour_65 : decode cX2_hour 65 = .ok (.aload_n 0, 1) := dk_42 (dk_at dksX2_hour_2 19 rfl rfl)
theorem dX2_hour_66 : decode cX2_hour 66 = .ok (.iload_n 3, 1) := dk_29 (dk_at dksX2_hour_2 20 rfl rfl)
theorem dX2_hour_67 : decode cX2_hour 67 = .ok (.iload 4, 2) := dk_21 4 (dk_at dksX2_hour_2 21 rfl rfl)
theorem dX2_hour_69 : decode cX2_hour 69 = .ok (.invokevirtual 363, 3) := dk_182 1 107 (dk_at dksX2_hour_3 0 rfl rfl)
theorem dX2_hour_72 : decode cX2_hour 72 = .ok (.ireturn, 1) := dk_172 (dk_at dksX2_hour_3 3 rfl rfl)
abbrev cX2_hours : ByteArray := prog_23_method_41_code
def yX2_hours : MethodName := ⟨RX2, "hours", "(I)V"⟩
def dkwX2_hours_9 : List UInt8 := [96, 46, 96, 79, 132, 3, 1, 167, 255, 105, 177]
abbrev dktX2_hours_9 : List UInt8 := dkwX2_hours_9 ++ []
def dkwX2_hours_8 : List UInt8 := [180, 0, 112, 29, 46, 42, 180, 0, 97, 6, 29, 104, 5, 96, 46, 96, 42, 180, 0, 118, 7, 29, 104, 5]
abbrev dktX2_hours_8 : List UInt8 := dkwX2_hours_8 ++ dktX2_hours_9
def dkwX2_hours_7 : List UInt8 := [7, 29, 104, 4, 96, 46, 96, 79, 42, 180, 0, 115, 29, 21, 4, 153, 0, 7, 2, 167, 0, 31, 42]
abbrev dktX2_hours_7 : List UInt8 := dkwX2_hours_7 ++ dktX2_hours_8
def dkwX2_hours_6 : List UInt8 := [167, 0, 31, 42, 180, 0, 109, 29, 46, 42, 180, 0, 97, 6, 29, 104, 4, 96, 46, 96, 42, 180, 0, 118]
abbrev dktX2_hours_6 : List UInt8 := dkwX2_hours_6 ++ dktX2_hours_7
def dkwX2_hours_5 : List UInt8 := [104, 46, 42, 180, 0, 118, 7, 29, 104, 46, 96, 79, 42, 180, 0, 112, 29, 21, 4, 153, 0, 7, 2]
abbrev dktX2_hours_5 : List UInt8 := dkwX2_hours_5 ++ dktX2_hours_6
def dkwX2_hours_4 : List UInt8 := [96, 46, 4, 160, 0, 7, 4, 167, 0, 4, 3, 54, 4, 42, 180, 0, 109, 29, 42, 180, 0, 97, 6, 29]
abbrev dktX2_hours_4 : List UInt8 := dkwX2_hours_4 ++ dktX2_hours_5
def dkwX2_hours_3 : List UInt8 := [180, 1, 95, 162, 0, 149, 42, 180, 0, 75, 29, 46, 5, 159, 0, 17, 42, 180, 0, 118, 7, 29, 104, 6]
abbrev dktX2_hours_3 : List UInt8 := dkwX2_hours_3 ++ dktX2_hours_4
def dkwX2_hours_2 : List UInt8 := [29, 46, 112, 79, 28, 42, 180, 0, 106, 29, 46, 108, 61, 132, 3, 1, 167, 255, 217, 3, 62, 29, 42]
abbrev dktX2_hours_2 : List UInt8 := dkwX2_hours_2 ++ dktX2_hours_3
def dkwX2_hours_1 : List UInt8 := [62, 29, 42, 180, 1, 98, 162, 0, 37, 42, 180, 0, 118, 42, 180, 0, 103, 29, 46, 28, 42, 180, 0, 106]
abbrev dktX2_hours_1 : List UInt8 := dkwX2_hours_1 ++ dktX2_hours_2
def dkwX2_hours_0 : List UInt8 := [3, 61, 28, 16, 48, 162, 0, 16, 42, 180, 0, 118, 28, 3, 79, 132, 2, 1, 167, 255, 240, 27, 61, 3]
abbrev dktX2_hours_0 : List UInt8 := dkwX2_hours_0 ++ dktX2_hours_1
theorem dksX2_hours_0 : cX2_hours.data.toList.drop 0 = dktX2_hours_0 := by decide +kernel
theorem dksX2_hours_1 : cX2_hours.data.toList.drop 24 = dktX2_hours_1 := dk_seg dksX2_hours_0 24 rfl rfl
theorem dksX2_hours_2 : cX2_hours.data.toList.drop 48 = dktX2_hours_2 := dk_seg dksX2_hours_1 24 rfl rfl
theorem dksX2_hours_3 : cX2_hours.data.toList.drop 71 = dktX2_hours_3 := dk_seg dksX2_hours_2 23 rfl rfl
theorem dksX2_hours_4 : cX2_hours.data.toList.drop 95 = dktX2_hours_4 := dk_seg dksX2_hours_3 24 rfl rfl
theorem dksX2_hours_5 : cX2_hours.data.toList.drop 119 = dktX2_hours_5 := dk_seg dksX2_hours_4 24 rfl rfl
theorem dksX2_hours_6 : cX2_hours.data.toList.drop 142 = dktX2_hours_6 := dk_seg dksX2_hours_5 23 rfl rfl
theorem dksX2_hours_7 : cX2_hours.data.toList.drop 166 = dktX2_hours_7 := dk_seg dksX2_hours_6 24 rfl rfl
theorem dksX2_hours_8 : cX2_hours.data.toList.drop 189 = dktX2_hours_8 := dk_seg dksX2_hours_7 23 rfl rfl
theorem dksX2_hours_9 : cX2_hours.data.toList.drop 213 = dktX2_hours_9 := dk_seg dksX2_hours_8 24 rfl rfl
theorem dX2_hours_0 : decode cX2_hours 0 = .ok (.iconst 0, 1) := dk_3 (dk_at dksX2_hours_0 0 rfl rfl)
theorem dX2_hours_1 : decode cX2_hours 1 = .ok (.istore_n 2, 1) := dk_61 (dk_at dksX2_hours_0 1 rfl rfl)
theorem dX2_hours_2 : decode cX2_hours 2 = .ok (.iload_n 2, 1) := dk_28 (dk_at dksX2_hours_0 2 rfl rfl)
theorem dX2_hours_3 : decode cX2_hours 3 = .ok (.bipush 48, 2) := dk_16 48 (dk_at dksX2_hours_0 3 rfl rfl)
theorem dX2_hours_5 : decode cX2_hours 5 = .ok (.if_icmp .ge 16, 3) := dk_162 0 16 (dk_at dksX2_hours_0 5 rfl rfl)
theorem dX2_hours_8 : decode cX2_hours 8 = .ok (.aload_n 0, 1) := dk_42 (dk_at dksX2_hours_0 8 rfl rfl)
theorem dX2_hours_9 : decode cX2_hours 9 = .ok (.getfield 118, 3) := dk_180 0 118 (dk_at dksX2_hours_0 9 rfl rfl)
theorem dX2_hours_12 : decode cX2_hours 12 = .ok (.iload_n 2, 1) := dk_28 (dk_at dksX2_hours_0 12 rfl rfl)
theorem dX2_hours_13 : decode cX2_hours 13 = .ok (.iconst 0, 1) := dk_3 (dk_at dksX2_hours_0 13 rfl rfl)
theorem dX2_hours_14 : decode cX2_hours 14 = .ok (.iastore, 1) := dk_79 (dk_at dksX2_hours_0 14 rfl rfl)
theorem dX2_hours_15 : decode cX2_hours 15 = .ok (.iinc 2 1, 3) := dk_132 2 1 (dk_at dksX2_hours_0 15 rfl rfl)
theorem dX2_hours_18 : decode cX2_hours 18 = .ok (.goto (-16), 3) := dk_167 255 240 (dk_at dksX2_hours_0 18 rfl rfl)
theorem dX2_hours_21 : decode cX2_hours 21 = .ok (.iload_n 1, 1) := dk_27 (dk_at dksX2_hours_0 21 rfl rfl)
theorem dX2_hours_22 : decode cX2_hours 22 = .ok (.istore_n 2, 1) := dk_61 (dk_at dksX2_hours_0 22 rfl rfl)
theorem dX2_hours_23 : decode cX2_hours 23 = .ok (.iconst 0, 1) := dk_3 (dk_at dksX2_hours_0 23 rfl rfl)
theorem dX2_hours_24 : decode cX2_hours 24 = .ok (.istore_n 3, 1) := dk_62 (dk_at dksX2_hours_1 0 rfl rfl)
theorem dX2_hours_25 : decode cX2_hours 25 = .ok (.iload_n 3, 1) := dk_29 (dk_at dksX2_hours_1 1 rfl rfl)
theorem dX2_hours_26 : decode cX2_hours 26 = .ok (.aload_n 0, 1) := dk_42 (dk_at dksX2_hours_1 2 rfl rfl)
theorem dX2_hours_27 : decode cX2_hours 27 = .ok (.getfield 354, 3) := dk_180 1 98 (dk_at dksX2_hours_1 3 rfl rfl)
theorem dX2_hours_30 : decode cX2_hours 30 = .ok (.if_icmp .ge 37, 3) := dk_162 0 37 (dk_at dksX2_hours_1 6 rfl rfl)
theorem dX2_hours_33 : decode cX2_hours 33 = .ok (.aload_n 0, 1) := dk_42 (dk_at dksX2_hours_1 9 rfl rfl)
theorem dX2_hours_34 : decode cX2_hours 34 = .ok (.getfield 118, 3) := dk_180 0 118 (dk_at dksX2_hours_1 10 rfl rfl)
theorem dX2_hours_37 : decode cX2_hours 37 = .ok (.aload_n 0, 1) := dk_42 (dk_at dksX2_hours_1 13 rfl rfl)
theorem dX2_hours_38 : decode cX2_hours 38 = .ok (.getfield 103, 3) := dk_180 0 103 (dk_at dksX2_hours_1 14 rfl rfl)
theorem dX2_hours_41 : decode cX2_hours 41 = .ok (.iload_n 3, 1) := dk_29 (dk_at dksX2_hours_1 17 rfl rfl)
theorem dX2_hours_42 : decode cX2_hours 42 = .ok (.iaload, 1) := dk_46 (dk_at dksX2_hours_1 18 rfl rfl)
theorem dX2_hours_43 : decode cX2_hours 43 = .ok (.iload_n 2, 1) := dk_28 (dk_at dksX2_hours_1 19 rfl rfl)
theorem dX2_hours_44 : decode cX2_hours 44 = .ok (.aload_n 0, 1) := dk_42 (dk_at dksX2_hours_1 20 rfl rfl)
theorem dX2_hours_45 : decode cX2_hours 45 = .ok (.getfield 106, 3) := dk_180 0 106 (dk_at dksX2_hours_1 21 rfl rfl)
theorem dX2_hours_48 : decode cX2_hours 48 = .ok (.iload_n 3, 1) := dk_29 (dk_at dksX2_hours_2 0 rfl rfl)
theorem dX2_hours_49 : decode cX2_hours 49 = .ok (.iaload, 1) := dk_46 (dk_at dksX2_hours_2 1 rfl rfl)
theorem dX2_hours_50 : decode cX2_hours 50 = .ok (.irem, 1) := dk_112 (dk_at dksX2_hours_2 2 rfl rfl)
theorem dX2_hours_51 : decode cX2_hours 51 = .ok (.iastore, 1) := dk_79 (dk_at dksX2_hours_2 3 rfl rfl)
theorem dX2_hours_52 : decode cX2_hours 52 = .ok (.iload_n 2, 1) := dk_28 (dk_at dksX2_hours_2 4 rfl rfl)
theorem dX2_hours_53 : decode cX2_hours 53 = .ok (.aload_n 0, 1) := dk_42 (dk_at dksX2_hours_2 5 rfl rfl)
theorem dX2_hours_54 : decode cX2_hours 54 = .ok (.getfield 106, 3) := dk_180 0 106 (dk_at dksX2_hours_2 6 rfl rfl)
theorem dX2_hours_57 : decode cX2_hours 57 = .ok (.iload_n 3, 1) := dk_29 (dk_at dksX2_hours_2 9 rfl rfl)
theorem dX2_hours_58 : decode cX2_hours 58 = .ok (.iaload, 1) := dk_46 (dk_at dksX2_hours_2 10 rfl rfl)
theorem dX2_hours_59 : decode cX2_hours 59 = .ok (.idiv, 1) := dk_108 (dk_at dksX2_hours_2 11 rfl rfl)
theorem dX2_hours_60 : decode cX2_hours 60 = .ok (.istore_n 2, 1) := dk_61 (dk_at dksX2_hours_2 12 rfl rfl)
theorem dX2_hours_61 : decode cX2_hours 61 = .ok (.iinc 3 1, 3) := dk_132 3 1 (dk_at dksX2_hours_2 13 rfl rfl)
theorem dX2_hours_64 : decode cX2_hours 64 = .ok (.goto (-39), 3) := dk_167 255 217 (dk_at dksX2_hours_2 16 rfl rfl)
theorem dX2_hours_67 : decode cX2_hours 67 = .ok (.iconst 0, 1) := dk_3 (dk_at dksX2_hours_2 19 rfl rfl)
theorem dX2_hours_68 : decode cX2_hours 68 = .ok (.istore_n 3, 1) := dk_62 (dk_at dksX2_hours_2 20 rfl rfl)
theorem dX2_hours_69 : decode cX2_hours 69 = .ok (.iload_n 3, 1) := dk_29 (dk_at dksX2_hours_2 21 rfl rfl)
theorem dX2_hours_70 : decode cX2_hours 70 = .ok (.aload_n 0, 1) := dk_42 (dk_at dksX2_hours_2 22 rfl rfl)
theorem dX2_hours_71 : decode cX2_hours 71 = .ok (.getfield 351, 3) := dk_180 1 95 (dk_at dksX2_hours_3 0 rfl rfl)
theorem dX2_hours_74 : decode cX2_hours 74 = .ok (.if_icmp .ge 149, 3) := dk_162 0 149 (dk_at dksX2_hours_3 3 rfl rfl)
theorem dX2_hours_77 : decode cX2_hours 77 = .ok (.aload_n 0, 1) := dk_42 (dk_at dksX2_hours_3 6 rfl rfl)
theorem dX2_hours_78 : decode cX2_hours 78 = .ok (.getfield 75, 3) := dk_180 0 75 (dk_at dksX2_hours_3 7 rfl rfl)
theorem dX2_hours_81 : decode cX2_hours 81 = .ok (.iload_n 3, 1) := dk_29 (dk_at dksX2_hours_3 10 rfl rfl)
theorem dX2_hours_82 : decode cX2_hours 82 = .ok (.iaload, 1) := dk_46 (dk_at dksX2_hours_3 11 rfl rfl)
theorem dX2_hours_83 : decode cX2_hours 83 = .ok (.iconst 2, 1) := dk_5 (dk_at dksX2_hours_3 12 rfl rfl)
theorem dX2_hours_84 : decode cX2_hours 84 = .ok (.if_icmp .eq 17, 3) := dk_159 0 17 (dk_at dksX2_hours_3 13 rfl rfl)
theorem dX2_hours_87 : decode cX2_hours 87 = .ok (.aload_n 0, 1) := dk_42 (dk_at dksX2_hours_3 16 rfl rfl)
theorem dX2_hours_88 : decode cX2_hours 88 = .ok (.getfield 118, 3) := dk_180 0 118 (dk_at dksX2_hours_3 17 rfl rfl)
theorem dX2_hours_91 : decode cX2_hours 91 = .ok (.iconst 4, 1) := dk_7 (dk_at dksX2_hours_3 20 rfl rfl)
theorem dX2_hours_92 : decode cX2_hours 92 = .ok (.iload_n 3, 1) := dk_29 (dk_at dksX2_hours_3 21 rfl rfl)
theorem dX2_hours_93 : decode cX2_hours 93 = .ok (.imul, 1) := dk_104 (dk_at dksX2_hours_3 22 rfl rfl)
theorem dX2_hours_94 : decode cX2_hours 94 = .ok (.iconst 3, 1) := dk_6 (dk_at dksX2_hours_3 23 rfl rfl)
theorem dX2_hours_95 : decode cX2_hours 95 = .ok (.iadd, 1) := dk_96 (dk_at dksX2_hours_4 0 rfl rfl)
theorem dX2_hours_96 : decode cX2_hours 96 = .ok (.iaload, 1) := dk_46 (dk_at dksX2_hours_4 1 rfl rfl)
theorem dX2_hours_97 : decode cX2_hours 97 = .ok (.iconst 1, 1) := dk_4 (dk_at dksX2_hours_4 2 rfl rfl)
theorem dX2_hours_98 : decode cX2_hours 98 = .ok (.if_icmp .ne 7, 3) := dk_160 0 7 (dk_at dksX2_hours_4 3 rfl rfl)
theorem dX2_hours_101 : decode cX2_hours 101 = .ok (.iconst 1, 1) := dk_4 (dk_at dksX2_hours_4 6 rfl rfl)
theorem dX2_hours_102 : decode cX2_hours 102 = .ok (.goto 4, 3) := dk_167 0 4 (dk_at dksX2_hours_4 7 rfl rfl)
theorem dX2_hours_105 : decode cX2_hours 105 = .ok (.iconst 0, 1) := dk_3 (dk_at dksX2_hours_4 10 rfl rfl)
theorem dX2_hours_106 : decode cX2_hours 106 = .ok (.istore 4, 2) := dk_54 4 (dk_at dksX2_hours_4 11 rfl rfl)
theorem dX2_hours_108 : decode cX2_hours 108 = .ok (.aload_n 0, 1) := dk_42 (dk_at dksX2_hours_4 13 rfl rfl)
theorem dX2_hours_109 : decode cX2_hours 109 = .ok (.getfield 109, 3) := dk_180 0 109 (dk_at dksX2_hours_4 14 rfl rfl)
theorem dX2_hours_112 : decode cX2_hours 112 = .ok (.iload_n 3, 1) := dk_29 (dk_at dksX2_hours_4 17 rfl rfl)
theorem dX2_hours_113 : decode cX2_hours 113 = .ok (.aload_n 0, 1) := dk_42 (dk_at dksX2_hours_4 18 rfl rfl)
theorem dX2_hours_114 : decode cX2_hours 114 = .ok (.getfield 97, 3) := dk_180 0 97 (dk_at dksX2_hours_4 19 rfl rfl)
theorem dX2_hours_117 : decode cX2_hours 117 = .ok (.iconst 3, 1) := dk_6 (dk_at dksX2_hours_4 22 rfl rfl)
theorem dX2_hours_118 : decode cX2_hours 118 = .ok (.iload_n 3, 1) := dk_29 (dk_at dksX2_hours_4 23 rfl rfl)
theorem dX2_hours_119 : decode cX2_hours 119 = .ok (.imul, 1) := dk_104 (dk_at dksX2_hours_5 0 rfl rfl)
theorem dX2_hours_120 : decode cX2_hours 120 = .ok (.iaload, 1) := dk_46 (dk_at dksX2_hours_5 1 rfl rfl)
theorem dX2_hours_121 : decode cX2_hours 121 = .ok (.aload_n 0, 1) := dk_42 (dk_at dksX2_hours_5 2 rfl rfl)
theorem dX2_hours_122 : decode cX2_hours 122 = .ok (.getfield 118, 3) := dk_180 0 118 (dk_at dksX2_hours_5 3 rfl rfl)
theorem dX2_hours_125 : decode cX2_hours 125 = .ok (.iconst 4, 1) := dk_7 (dk_at dksX2_hours_5 6 rfl rfl)
theorem dX2_hours_126 : decode cX2_hours 126 = .ok (.iload_n 3, 1) := dk_29 (dk_at dksX2_hours_5 7 rfl rfl)
theorem dX2_hours_127 : decode cX2_hours 127 = .ok (.imul, 1) := dk_104 (dk_at dksX2_hours_5 8 rfl rfl)
theorem dX2_hours_128 : decode cX2_hours 128 = .ok (.iaload, 1) := dk_46 (dk_at dksX2_hours_5 9 rfl rfl)
theorem dX2_hours_129 : decode cX2_hours 129 = .ok (.iadd, 1) := dk_96 (dk_at dksX2_hours_5 10 rfl rfl)
theorem dX2_hours_130 : decode cX2_hours 130 = .ok (.iastore, 1) := dk_79 (dk_at dksX2_hours_5 11 rfl rfl)
theorem dX2_hours_131 : decode cX2_hours 131 = .ok (.aload_n 0, 1) := dk_42 (dk_at dksX2_hours_5 12 rfl rfl)
theorem dX2_hours_132 : decode cX2_hours 132 = .ok (.getfield 112, 3) := dk_180 0 112 (dk_at dksX2_hours_5 13 rfl rfl)
theorem dX2_hours_135 : decode cX2_hours 135 = .ok (.iload_n 3, 1) := dk_29 (dk_at dksX2_hours_5 16 rfl rfl)
theorem dX2_hours_136 : decode cX2_hours 136 = .ok (.iload 4, 2) := dk_21 4 (dk_at dksX2_hours_5 17 rfl rfl)
theorem dX2_hours_138 : decode cX2_hours 138 = .ok (.ifCond .eq 7, 3) := dk_153 0 7 (dk_at dksX2_hours_5 19 rfl rfl)
theorem dX2_hours_141 : decode cX2_hours 141 = .ok (.iconst (-1), 1) := dk_2 (dk_at dksX2_hours_5 22 rfl rfl)
theorem dX2_hours_142 : decode cX2_hours 142 = .ok (.goto 31, 3) := dk_167 0 31 (dk_at dksX2_hours_6 0 rfl rfl)
theorem dX2_hours_145 : decode cX2_hours 145 = .ok (.aload_n 0, 1) := dk_42 (dk_at dksX2_hours_6 3 rfl rfl)
theorem dX2_hours_146 : decode cX2_hours 146 = .ok (.getfield 109, 3) := dk_180 0 109 (dk_at dksX2_hours_6 4 rfl rfl)
theorem dX2_hours_149 : decode cX2_hours 149 = .ok (.iload_n 3, 1) := dk_29 (dk_at dksX2_hours_6 7 rfl rfl)
theorem dX2_hours_150 : decode cX2_hours 150 = .ok (.iaload, 1) := dk_46 (dk_at dksX2_hours_6 8 rfl rfl)
theorem dX2_hours_151 : decode cX2_hours 151 = .ok (.aload_n 0, 1) := dk_42 (dk_at dksX2_hours_6 9 rfl rfl)
theorem dX2_hours_152 : decode cX2_hours 152 = .ok (.getfield 97, 3) := dk_180 0 97 (dk_at dksX2_hours_6 10 rfl rfl)
theorem dX2_hours_155 : decode cX2_hours 155 = .ok (.iconst 3, 1) := dk_6 (dk_at dksX2_hours_6 13 rfl rfl)
theorem dX2_hours_156 : decode cX2_hours 156 = .ok (.iload_n 3, 1) := dk_29 (dk_at dksX2_hours_6 14 rfl rfl)
theorem dX2_hours_157 : decode cX2_hours 157 = .ok (.imul, 1) := dk_104 (dk_at dksX2_hours_6 15 rfl rfl)
theorem dX2_hours_158 : decode cX2_hours 158 = .ok (.iconst 1, 1) := dk_4 (dk_at dksX2_hours_6 16 rfl rfl)
theorem dX2_hours_159 : decode cX2_hours 159 = .ok (.iadd, 1) := dk_96 (dk_at dksX2_hours_6 17 rfl rfl)
theorem dX2_hours_160 : decode cX2_hours 160 = .ok (.iaload, 1) := dk_46 (dk_at dksX2_hours_6 18 rfl rfl)
theorem dX2_hours_161 : decode cX2_hours 161 = .ok (.iadd, 1) := dk_96 (dk_at dksX2_hours_6 19 rfl rfl)
theorem dX2_hours_162 : decode cX2_hours 162 = .ok (.aload_n 0, 1) := dk_42 (dk_at dksX2_hours_6 20 rfl rfl)
theorem dX2_hours_163 : decode cX2_hours 163 = .ok (.getfield 118, 3) := dk_180 0 118 (dk_at dksX2_hours_6 21 rfl rfl)
theorem dX2_hours_166 : decode cX2_hours 166 = .ok (.iconst 4, 1) := dk_7 (dk_at dksX2_hours_7 0 rfl rfl)
theorem dX2_hours_167 : decode cX2_hours 167 = .ok (.iload_n 3, 1) := dk_29 (dk_at dksX2_hours_7 1 rfl rfl)
theorem dX2_hours_168 : decode cX2_hours 168 = .ok (.imul, 1) := dk_104 (dk_at dksX2_hours_7 2 rfl rfl)
theorem dX2_hours_169 : decode cX2_hours 169 = .ok (.iconst 1, 1) := dk_4 (dk_at dksX2_hours_7 3 rfl rfl)
theorem dX2_hours_170 : decode cX2_hours 170 = .ok (.iadd, 1) := dk_96 (dk_at dksX2_hours_7 4 rfl rfl)
theorem dX2_hours_171 : decode cX2_hours 171 = .ok (.iaload, 1) := dk_46 (dk_at dksX2_hours_7 5 rfl rfl)
theorem dX2_hours_172 : decode cX2_hours 172 = .ok (.iadd, 1) := dk_96 (dk_at dksX2_hours_7 6 rfl rfl)
theorem dX2_hours_173 : decode cX2_hours 173 = .ok (.iastore, 1) := dk_79 (dk_at dksX2_hours_7 7 rfl rfl)
theorem dX2_hours_174 : decode cX2_hours 174 = .ok (.aload_n 0, 1) := dk_42 (dk_at dksX2_hours_7 8 rfl rfl)
theorem dX2_hours_175 : decode cX2_hours 175 = .ok (.getfield 115, 3) := dk_180 0 115 (dk_at dksX2_hours_7 9 rfl rfl)
theorem dX2_hours_178 : decode cX2_hours 178 = .ok (.iload_n 3, 1) := dk_29 (dk_at dksX2_hours_7 12 rfl rfl)
theorem dX2_hours_179 : decode cX2_hours 179 = .ok (.iload 4, 2) := dk_21 4 (dk_at dksX2_hours_7 13 rfl rfl)
theorem dX2_hours_181 : decode cX2_hours 181 = .ok (.ifCond .eq 7, 3) := dk_153 0 7 (dk_at dksX2_hours_7 15 rfl rfl)
theorem dX2_hours_184 : decode cX2_hours 184 = .ok (.iconst (-1), 1) := dk_2 (dk_at dksX2_hours_7 18 rfl rfl)
theorem dX2_hours_185 : decode cX2_hours 185 = .ok (.goto 31, 3) := dk_167 0 31 (dk_at dksX2_hours_7 19 rfl rfl)
theorem dX2_hours_188 : decode cX2_hours 188 = .ok (.aload_n 0, 1) := dk_42 (dk_at dksX2_hours_7 22 rfl rfl)
theorem dX2_hours_189 : decode cX2_hours 189 = .ok (.getfield 112, 3) := dk_180 0 112 (dk_at dksX2_hours_8 0 rfl rfl)
theorem dX2_hours_192 : decode cX2_hours 192 = .ok (.iload_n 3, 1) := dk_29 (dk_at dksX2_hours_8 3 rfl rfl)
theorem dX2_hours_193 : decode cX2_hours 193 = .ok (.iaload, 1) := dk_46 (dk_at dksX2_hours_8 4 rfl rfl)
theorem dX2_hours_194 : decode cX2_hours 194 = .ok (.aload_n 0, 1) := dk_42 (dk_at dksX2_hours_8 5 rfl rfl)
theorem dX2_hours_195 : decode cX2_hours 195 = .ok (.getfield 97, 3) := dk_180 0 97 (dk_at dksX2_hours_8 6 rfl rfl)
theorem dX2_hours_198 : decode cX2_hours 198 = .ok (.iconst 3, 1) := dk_6 (dk_at dksX2_hours_8 9 rfl rfl)
theorem dX2_hours_199 : decode cX2_hours 199 = .ok (.iload_n 3, 1) := dk_29 (dk_at dksX2_hours_8 10 rfl rfl)
theorem dX2_hours_200 : decode cX2_hours 200 = .ok (.imul, 1) := dk_104 (dk_at dksX2_hours_8 11 rfl rfl)
theorem dX2_hours_201 : decode cX2_hours 201 = .ok (.iconst 2, 1) := dk_5 (dk_at dksX2_hours_8 12 rfl rfl)
theorem dX2_hours_202 : decode cX2_hours 202 = .ok (.iadd, 1) := dk_96 (dk_at dksX2_hours_8 13 rfl rfl)
theorem dX2_hours_203 : decode cX2_hours 203 = .ok (.iaload, 1) := dk_46 (dk_at dksX2_hours_8 14 rfl rfl)
theorem dX2_hours_204 : decode cX2_hours 204 = .ok (.iadd, 1) := dk_96 (dk_at dksX2_hours_8 15 rfl rfl)
theorem dX2_hours_205 : decode cX2_hours 205 = .ok (.aload_n 0, 1) := dk_42 (dk_at dksX2_hours_8 16 rfl rfl)
theorem dX2_hours_206 : decode cX2_hours 206 = .ok (.getfield 118, 3) := dk_180 0 118 (dk_at dksX2_hours_8 17 rfl rfl)
theorem dX2_hours_209 : decode cX2_hours 209 = .ok (.iconst 4, 1) := dk_7 (dk_at dksX2_hours_8 20 rfl rfl)
theorem dX2_hours_210 : decode cX2_hours 210 = .ok (.iload_n 3, 1) := dk_29 (dk_at dksX2_hours_8 21 rfl rfl)
theorem dX2_hours_211 : decode cX2_hours 211 = .ok (.imul, 1) := dk_104 (dk_at dksX2_hours_8 22 rfl rfl)
theorem dX2_hours_212 : decode cX2_hours 212 = .ok (.iconst 2, 1) := dk_5 (dk_at dksX2_hours_8 23 rfl rfl)
theorem dX2_hours_213 : decode cX2_hours 213 = .ok (.iadd, 1) := dk_96 (dk_at dksX2_hours_9 0 rfl rfl)
theorem dX2_hours_214 : decode cX2_hours 214 = .ok (.iaload, 1) := dk_46 (dk_at dksX2_hours_9 1 rfl rfl)
theorem dX2_hours_215 : decode cX2_hours 215 = .ok (.iadd, 1) := dk_96 (dk_at dksX2_hours_9 2 rfl rfl)
theorem dX2_hours_216 : decode cX2_hours 216 = .ok (.iastore, 1) := dk_79 (dk_at dksX2_hours_9 3 rfl rfl)
theorem dX2_hours_217 : decode cX2_hours 217 = .ok (.iinc 3 1, 3) := dk_132 3 1 (dk_at dksX2_hours_9 4 rfl rfl)
theorem dX2_hours_220 : decode cX2_hours 220 = .ok (.goto (-151), 3) := dk_167 255 105 (dk_at dksX2_hours_9 7 rfl rfl)
theorem dX2_hours_223 : decode cX2_hours 223 = .ok (.return_, 1) := dk_177 (dk_at dksX2_hours_9 10 rfl rfl)
abbrev cX2_when : ByteArray := prog_23_method_42_code
def yX2_when : MethodName := ⟨RX2, "when", "(II)I"⟩
def dkwX2_when_1 : List UInt8 := [167, 0, 9, 42, 180, 0, 115, 27, 46, 172]
abbrev dktX2_when_1 : List UInt8 := dkwX2_when_1 ++ []
def dkwX2_when_0 : List UInt8 := [28, 154, 0, 12, 42, 180, 0, 109, 27, 46, 167, 0, 23, 28, 4, 160, 0, 12, 42, 180, 0, 112, 27, 46]
abbrev dktX2_when_0 : List UInt8 := dkwX2_when_0 ++ dktX2_when_1
theorem dksX2_when_0 : cX2_when.data.toList.drop 0 = dktX2_when_0 := by decide +kernel
theorem dksX2_when_1 : cX2_when.data.toList.drop 24 = dktX2_when_1 := dk_seg dksX2_when_0 24 rfl rfl
theorem dX2_when_0 : decode cX2_when 0 = .ok (.iload_n 2, 1) := dk_28 (dk_at dksX2_when_0 0 rfl rfl)
theorem dX2_when_1 : decode cX2_when 1 = .ok (.ifCond .ne 12, 3) := dk_154 0 12 (dk_at dksX2_when_0 1 rfl rfl)
theorem dX2_when_4 : decode cX2_when 4 = .ok (.aload_n 0, 1) := dk_42 (dk_at dksX2_when_0 4 rfl rfl)
theorem dX2_when_5 : decode cX2_when 5 = .ok (.getfield 109, 3) := dk_180 0 109 (dk_at dksX2_when_0 5 rfl rfl)
theorem dX2_when_8 : decode cX2_when 8 = .ok (.iload_n 1, 1) := dk_27 (dk_at dksX2_when_0 8 rfl rfl)
theorem dX2_when_9 : decode cX2_when 9 = .ok (.iaload, 1) := dk_46 (dk_at dksX2_when_0 9 rfl rfl)
theorem dX2_when_10 : decode cX2_when 10 = .ok (.goto 23, 3) := dk_167 0 23 (dk_at dksX2_when_0 10 rfl rfl)
theorem dX2_when_13 : decode cX2_when 13 = .ok (.iload_n 2, 1) := dk_28 (dk_at dksX2_when_0 13 rfl rfl)
theorem dX2_when_14 : decode cX2_when 14 = .ok (.iconst 1, 1) := dk_4 (dk_at dksX2_when_0 14 rfl rfl)
theorem dX2_when_15 : decode cX2_when 15 = .ok (.if_icmp .ne 12, 3) := dk_160 0 12 (dk_at dksX2_when_0 15 rfl rfl)
theorem dX2_when_18 : decode cX2_when 18 = .ok (.aload_n 0, 1) := dk_42 (dk_at dksX2_when_0 18 rfl rfl)
theorem dX2_when_19 : decode cX2_when 19 = .ok (.getfield 112, 3) := dk_180 0 112 (dk_at dksX2_when_0 19 rfl rfl)
theorem dX2_when_22 : decode cX2_when 22 = .ok (.iload_n 1, 1) := dk_27 (dk_at dksX2_when_0 22 rfl rfl)
theorem dX2_when_23 : decode cX2_when 23 = .ok (.iaload, 1) := dk_46 (dk_at dksX2_when_0 23 rfl rfl)
theorem dX2_when_24 : decode cX2_when 24 = .ok (.goto 9, 3) := dk_167 0 9 (dk_at dksX2_when_1 0 rfl rfl)
theorem dX2_when_27 : decode cX2_when 27 = .ok (.aload_n 0, 1) := dk_42 (dk_at dksX2_when_1 3 rfl rfl)
theorem dX2_when_28 : decode cX2_when 28 = .ok (.getfield 115, 3) := dk_180 0 115 (dk_at dksX2_when_1 4 rfl rfl)
theorem dX2_when_31 : decode cX2_when 31 = .ok (.iload_n 1, 1) := dk_27 (dk_at dksX2_when_1 7 rfl rfl)
theorem dX2_when_32 : decode cX2_when 32 = .ok (.iaload, 1) := dk_46 (dk_at dksX2_when_1 8 rfl rfl)
theorem dX2_when_33 : decode cX2_when 33 = .ok (.ireturn, 1) := dk_172 (dk_at dksX2_when_1 9 rfl rfl)
abbrev cX2_run : ByteArray := prog_23_method_66_code
def yX2_run : MethodName := ⟨RX2, "run", "(IIII)I"⟩
def dkwX2_run_3 : List UInt8 := [21, 4, 5, 160, 0, 10, 42, 180, 1, 128, 167, 0, 12, 42, 21, 4, 16, 10, 100, 182, 1, 193, 172]
abbrev dktX2_run_3 : List UInt8 := dkwX2_run_3 ++ []
def dkwX2_run_2 : List UInt8 := [154, 0, 10, 42, 180, 1, 131, 167, 0, 38, 21, 4, 4, 160, 0, 10, 42, 180, 1, 134, 167, 0, 25]
abbrev dktX2_run_2 : List UInt8 := dkwX2_run_2 ++ dktX2_run_3
def dkwX2_run_1 : List UInt8 := [28, 29, 182, 1, 190, 154, 0, 6, 16, 253, 172, 42, 180, 1, 125, 154, 0, 6, 16, 254, 172, 21, 4]
abbrev dktX2_run_1 : List UInt8 := dkwX2_run_1 ++ dktX2_run_2
def dkwX2_run_0 : List UInt8 := [21, 4, 3, 5, 184, 0, 176, 154, 0, 15, 21, 4, 16, 10, 16, 14, 184, 0, 176, 153, 0, 13, 42, 27]
abbrev dktX2_run_0 : List UInt8 := dkwX2_run_0 ++ dktX2_run_1
theorem dksX2_run_0 : cX2_run.data.toList.drop 0 = dktX2_run_0 := by decide +kernel
theorem dksX2_run_1 : cX2_run.data.toList.drop 24 = dktX2_run_1 := dk_seg dksX2_run_0 24 rfl rfl
theorem dksX2_run_2 : cX2_run.data.toList.drop 47 = dktX2_run_2 := dk_seg dksX2_run_1 23 rfl rfl
theorem dksX2_run_3 : cX2_run.data.toList.drop 70 = dktX2_run_3 := dk_seg dksX2_run_2 23 rfl rfl
theorem dX2_run_0 : decode cX2_run 0 = .ok (.iload 4, 2) := dk_21 4 (dk_at dksX2_run_0 0 rfl rfl)
theorem dX2_run_2 : decode cX2_run 2 = .ok (.iconst 0, 1) := dk_3 (dk_at dksX2_run_0 2 rfl rfl)
theorem dX2_run_3 : decode cX2_run 3 = .ok (.iconst 2, 1) := dk_5 (dk_at dksX2_run_0 3 rfl rfl)
theorem dX2_run_4 : decode cX2_run 4 = .ok (.invokestatic 176, 3) := dk_184 0 176 (dk_at dksX2_run_0 4 rfl rfl)
theorem dX2_run_7 : decode cX2_run 7 = .ok (.ifCond .ne 15, 3) := dk_154 0 15 (dk_at dksX2_run_0 7 rfl rfl)
theorem dX2_run_10 : decode cX2_run 10 = .ok (.iload 4, 2) := dk_21 4 (dk_at dksX2_run_0 10 rfl rfl)
theorem dX2_run_12 : decode cX2_run 12 = .ok (.bipush 10, 2) := dk_16 10 (dk_at dksX2_run_0 12 rfl rfl)
theorem dX2_run_14 : decode cX2_run 14 = .ok (.bipush 14, 2) := dk_16 14 (dk_at dksX2_run_0 14 rfl rfl)
theorem dX2_run_16 : decode cX2_run 16 = .ok (.invokestatic 176, 3) := dk_184 0 176 (dk_at dksX2_run_0 16 rfl rfl)
theorem dX2_run_19 : decode cX2_run 19 = .ok (.ifCond .eq 13, 3) := dk_153 0 13 (dk_at dksX2_run_0 19 rfl rfl)
theorem dX2_run_22 : decode cX2_run 22 = .ok (.aload_n 0, 1) := dk_42 (dk_at dksX2_run_0 22 rfl rfl)
theorem dX2_run_23 : decode cX2_run 23 = .ok (.iload_n 1, 1) := dk_27 (dk_at dksX2_run_0 23 rfl rfl)
theorem dX2_run_24 : decode cX2_run 24 = .ok (.iload_n 2, 1) := dk_28 (dk_at dksX2_run_1 0 rfl rfl)
theorem dX2_run_25 : decode cX2_run 25 = .ok (.iload_n 3, 1) := dk_29 (dk_at dksX2_run_1 1 rfl rfl)
theorem dX2_run_26 : decode cX2_run 26 = .ok (.invokevirtual 446, 3) := dk_182 1 190 (dk_at dksX2_run_1 2 rfl rfl)
theorem dX2_run_29 : decode cX2_run 29 = .ok (.ifCond .ne 6, 3) := dk_154 0 6 (dk_at dksX2_run_1 5 rfl rfl)
theorem dX2_run_32 : decode cX2_run 32 = .ok (.bipush (-3), 2) := dk_16 253 (dk_at dksX2_run_1 8 rfl rfl)
theorem dX2_run_34 : decode cX2_run 34 = .ok (.ireturn, 1) := dk_172 (dk_at dksX2_run_1 10 rfl rfl)
theorem dX2_run_35 : decode cX2_run 35 = .ok (.aload_n 0, 1) := dk_42 (dk_at dksX2_run_1 11 rfl rfl)
theorem dX2_run_36 : decode cX2_run 36 = .ok (.getfield 381, 3) := dk_180 1 125 (dk_at dksX2_run_1 12 rfl rfl)
theorem dX2_run_39 : decode cX2_run 39 = .ok (.ifCond .ne 6, 3) := dk_154 0 6 (dk_at dksX2_run_1 15 rfl rfl)
theorem dX2_run_42 : decode cX2_run 42 = .ok (.bipush (-2), 2) := dk_16 254 (dk_at dksX2_run_1 18 rfl rfl)
theorem dX2_run_44 : decode cX2_run 44 = .ok (.ireturn, 1) := dk_172 (dk_at dksX2_run_1 20 rfl rfl)
theorem dX2_run_45 : decode cX2_run 45 = .ok (.iload 4, 2) := dk_21 4 (dk_at dksX2_run_1 21 rfl rfl)
theorem dX2_run_47 : decode cX2_run 47 = .ok (.ifCond .ne 10, 3) := dk_154 0 10 (dk_at dksX2_run_2 0 rfl rfl)
theorem dX2_run_50 : decode cX2_run 50 = .ok (.aload_n 0, 1) := dk_42 (dk_at dksX2_run_2 3 rfl rfl)
theorem dX2_run_51 : decode cX2_run 51 = .ok (.getfield 387, 3) := dk_180 1 131 (dk_at dksX2_run_2 4 rfl rfl)
theorem dX2_run_54 : decode cX2_run 54 = .ok (.goto 38, 3) := dk_167 0 38 (dk_at dksX2_run_2 7 rfl rfl)
theorem dX2_run_57 : decode cX2_run 57 = .ok (.iload 4, 2) := dk_21 4 (dk_at dksX2_run_2 10 rfl rfl)
theorem dX2_run_59 : decode cX2_run 59 = .ok (.iconst 1, 1) := dk_4 (dk_at dksX2_run_2 12 rfl rfl)
theorem dX2_run_60 : decode cX2_run 60 = .ok (.if_icmp .ne 10, 3) := dk_160 0 10 (dk_at dksX2_run_2 13 rfl rfl)
theorem dX2_run_63 : decode cX2_run 63 = .ok (.aload_n 0, 1) := dk_42 (dk_at dksX2_run_2 16 rfl rfl)
theorem dX2_run_64 : decode cX2_run 64 = .ok (.getfield 390, 3) := dk_180 1 134 (dk_at dksX2_run_2 17 rfl rfl)
theorem dX2_run_67 : decode cX2_run 67 = .ok (.goto 25, 3) := dk_167 0 25 (dk_at dksX2_run_2 20 rfl rfl)
theorem dX2_run_70 : decode cX2_run 70 = .ok (.iload 4, 2) := dk_21 4 (dk_at dksX2_run_3 0 rfl rfl)
theorem dX2_run_72 : decode cX2_run 72 = .ok (.iconst 2, 1) := dk_5 (dk_at dksX2_run_3 2 rfl rfl)
theorem dX2_run_73 : decode cX2_run 73 = .ok (.if_icmp .ne 10, 3) := dk_160 0 10 (dk_at dksX2_run_3 3 rfl rfl)
theorem dX2_run_76 : decode cX2_run 76 = .ok (.aload_n 0, 1) := dk_42 (dk_at dksX2_run_3 6 rfl rfl)
theorem dX2_run_77 : decode cX2_run 77 = .ok (.getfield 384, 3) := dk_180 1 128 (dk_at dksX2_run_3 7 rfl rfl)
theorem dX2_run_80 : decode cX2_run 80 = .ok (.goto 12, 3) := dk_167 0 12 (dk_at dksX2_run_3 10 rfl rfl)
theorem dX2_run_83 : decode cX2_run 83 = .ok (.aload_n 0, 1) := dk_42 (dk_at dksX2_run_3 13 rfl rfl)
theorem dX2_run_84 : decode cX2_run 84 = .ok (.iload 4, 2) := dk_21 4 (dk_at dksX2_run_3 14 rfl rfl)
theorem dX2_run_86 : decode cX2_run 86 = .ok (.bipush 10, 2) := dk_16 10 (dk_at dksX2_run_3 16 rfl rfl)
theorem dX2_run_88 : decode cX2_run 88 = .ok (.isub, 1) := dk_100 (dk_at dksX2_run_3 18 rfl rfl)
theorem dX2_run_89 : decode cX2_run 89 = .ok (.invokevirtual 449, 3) := dk_182 1 193 (dk_at dksX2_run_3 19 rfl rfl)
theorem dX2_run_92 : decode cX2_run 92 = .ok (.ireturn, 1) := dk_172 (dk_at dksX2_run_3 22 rfl rfl)
abbrev cX2_looksAt : ByteArray := prog_23_method_62_code
def yX2_looksAt : MethodName := ⟨RX2, "looksAt", "(III)Z"⟩
def dkwX2_looksAt_2 : List UInt8 := [3, 172, 42, 29, 182, 1, 175, 4, 172]
abbrev dktX2_looksAt_2 : List UInt8 := dkwX2_looksAt_2 ++ []
def dkwX2_looksAt_1 : List UInt8 := [3, 182, 1, 92, 42, 27, 182, 1, 184, 42, 182, 1, 171, 153, 0, 11, 29, 42, 180, 1, 101, 161, 0, 5]
abbrev dktX2_looksAt_1 : List UInt8 := dkwX2_looksAt_1 ++ dktX2_looksAt_2
def dkwX2_looksAt_0 : List UInt8 := [42, 27, 182, 1, 43, 153, 0, 15, 42, 28, 182, 1, 89, 153, 0, 7, 29, 156, 0, 5, 3, 172, 42, 28]
abbrev dktX2_looksAt_0 : List UInt8 := dkwX2_looksAt_0 ++ dktX2_looksAt_1
theorem dksX2_looksAt_0 : cX2_looksAt.data.toList.drop 0 = dktX2_looksAt_0 := by decide +kernel
theorem dksX2_looksAt_1 : cX2_looksAt.data.toList.drop 24 = dktX2_looksAt_1 := dk_seg dksX2_looksAt_0 24 rfl rfl
theorem dksX2_looksAt_2 : cX2_looksAt.data.toList.drop 48 = dktX2_looksAt_2 := dk_seg dksX2_looksAt_1 24 rfl rfl
theorem dX2_looksAt_0 : decode cX2_looksAt 0 = .ok (.aload_n 0, 1) := dk_42 (dk_at dksX2_looksAt_0 0 rfl rfl)
theorem dX2_looksAt_1 : decode cX2_looksAt 1 = .ok (.iload_n 1, 1) := dk_27 (dk_at dksX2_looksAt_0 1 rfl rfl)
theorem dX2_looksAt_2 : decode cX2_looksAt 2 = .ok (.invokevirtual 299, 3) := dk_182 1 43 (dk_at dksX2_looksAt_0 2 rfl rfl)
theorem dX2_looksAt_5 : decode cX2_looksAt 5 = .ok (.ifCond .eq 15, 3) := dk_153 0 15 (dk_at dksX2_looksAt_0 5 rfl rfl)
theorem dX2_looksAt_8 : decode cX2_looksAt 8 = .ok (.aload_n 0, 1) := dk_42 (dk_at dksX2_looksAt_0 8 rfl rfl)
theorem dX2_looksAt_9 : decode cX2_looksAt 9 = .ok (.iload_n 2, 1) := dk_28 (dk_at dksX2_looksAt_0 9 rfl rfl)
theorem dX2_looksAt_10 : decode cX2_looksAt 10 = .ok (.invokevirtual 345, 3) := dk_182 1 89 (dk_at dksX2_looksAt_0 10 rfl rfl)
theorem dX2_looksAt_13 : decode cX2_looksAt 13 = .ok (.ifCond .eq 7, 3) := dk_153 0 7 (dk_at dksX2_looksAt_0 13 rfl rfl)
theorem dX2_looksAt_16 : decode cX2_looksAt 16 = .ok (.iload_n 3, 1) := dk_29 (dk_at dksX2_looksAt_0 16 rfl rfl)
theorem dX2_looksAt_17 : decode cX2_looksAt 17 = .ok (.ifCond .ge 5, 3) := dk_156 0 5 (dk_at dksX2_looksAt_0 17 rfl rfl)
theorem dX2_looksAt_20 : decode cX2_looksAt 20 = .ok (.iconst 0, 1) := dk_3 (dk_at dksX2_looksAt_0 20 rfl rfl)
theorem dX2_looksAt_21 : decode cX2_looksAt 21 = .ok (.ireturn, 1) := dk_172 (dk_at dksX2_looksAt_0 21 rfl rfl)
theorem dX2_looksAt_22 : decode cX2_looksAt 22 = .ok (.aload_n 0, 1) := dk_42 (dk_at dksX2_looksAt_0 22 rfl rfl)
theorem dX2_looksAt_23 : decode cX2_looksAt 23 = .ok (.iload_n 2, 1) := dk_28 (dk_at dksX2_looksAt_0 23 rfl rfl)
theorem dX2_looksAt_24 : decode cX2_looksAt 24 = .ok (.iconst 0, 1) := dk_3 (dk_at dksX2_looksAt_1 0 rfl rfl)
theorem dX2_looksAt_25 : decode cX2_looksAt 25 = .ok (.invokevirtual 348, 3) := dk_182 1 92 (dk_at dksX2_looksAt_1 1 rfl rfl)
theorem dX2_looksAt_28 : decode cX2_looksAt 28 = .ok (.aload_n 0, 1) := dk_42 (dk_at dksX2_looksAt_1 4 rfl rfl)
theorem dX2_looksAt_29 : decode cX2_looksAt 29 = .ok (.iload_n 1, 1) := dk_27 (dk_at dksX2_looksAt_1 5 rfl rfl)
theorem dX2_looksAt_30 : decode cX2_looksAt 30 = .ok (.invokevirtual 440, 3) := dk_182 1 184 (dk_at dksX2_looksAt_1 6 rfl rfl)
theorem dX2_looksAt_33 : decode cX2_looksAt 33 = .ok (.aload_n 0, 1) := dk_42 (dk_at dksX2_looksAt_1 9 rfl rfl)
theorem dX2_looksAt_34 : decode cX2_looksAt 34 = .ok (.invokevirtual 427, 3) := dk_182 1 171 (dk_at dksX2_looksAt_1 10 rfl rfl)
theorem dX2_looksAt_37 : decode cX2_looksAt 37 = .ok (.ifCond .eq 11, 3) := dk_153 0 11 (dk_at dksX2_looksAt_1 13 rfl rfl)
theorem dX2_looksAt_40 : decode cX2_looksAt 40 = .ok (.iload_n 3, 1) := dk_29 (dk_at dksX2_looksAt_1 16 rfl rfl)
theorem dX2_looksAt_41 : decode cX2_looksAt 41 = .ok (.aload_n 0, 1) := dk_42 (dk_at dksX2_looksAt_1 17 rfl rfl)
theorem dX2_looksAt_42 : decode cX2_looksAt 42 = .ok (.getfield 357, 3) := dk_180 1 101 (dk_at dksX2_looksAt_1 18 rfl rfl)
theorem dX2_looksAt_45 : decode cX2_looksAt 45 = .ok (.if_icmp .lt 5, 3) := dk_161 0 5 (dk_at dksX2_looksAt_1 21 rfl rfl)
theorem dX2_looksAt_48 : decode cX2_looksAt 48 = .ok (.iconst 0, 1) := dk_3 (dk_at dksX2_looksAt_2 0 rfl rfl)
theorem dX2_looksAt_49 : decode cX2_looksAt 49 = .ok (.ireturn, 1) := dk_172 (dk_at dksX2_looksAt_2 1 rfl rfl)
theorem dX2_looksAt_50 : decode cX2_looksAt 50 = .ok (.aload_n 0, 1) := dk_42 (dk_at dksX2_looksAt_2 2 rfl rfl)
theorem dX2_looksAt_51 : decode cX2_looksAt 51 = .ok (.iload_n 3, 1) := dk_29 (dk_at dksX2_looksAt_2 3 rfl rfl)
theorem dX2_looksAt_52 : decode cX2_looksAt 52 = .ok (.invokevirtual 431, 3) := dk_182 1 175 (dk_at dksX2_looksAt_2 4 rfl rfl)
theorem dX2_looksAt_55 : decode cX2_looksAt 55 = .ok (.iconst 1, 1) := dk_4 (dk_at dksX2_looksAt_2 7 rfl rfl)
theorem dX2_looksAt_56 : decode cX2_looksAt 56 = .ok (.ireturn, 1) := dk_172 (dk_at dksX2_looksAt_2 8 rfl rfl)
abbrev cX2_takes : ByteArray := prog_23_method_61_code
def yX2_takes : MethodName := ⟨RX2, "takes", "(I)V"⟩
def dkwX2_takes_6 : List UInt8 := [42, 27, 182, 1, 178, 42, 182, 1, 168, 177]
abbrev dktX2_takes_6 : List UInt8 := dkwX2_takes_6 ++ []
def dkwX2_takes_5 : List UInt8 := [167, 0, 18, 42, 28, 182, 1, 178, 42, 180, 0, 130, 28, 42, 182, 1, 181, 84, 132, 2, 1, 167, 255, 221]
abbrev dktX2_takes_5 : List UInt8 := dkwX2_takes_5 ++ dktX2_takes_6
def dkwX2_takes_4 : List UInt8 := [132, 2, 255, 167, 255, 191, 3, 61, 28, 27, 162, 0, 36, 42, 180, 0, 133, 28, 51, 154, 0, 6]
abbrev dktX2_takes_4 : List UInt8 := dkwX2_takes_4 ++ dktX2_takes_5
def dkwX2_takes_3 : List UInt8 := [180, 0, 133, 42, 180, 0, 40, 16, 12, 28, 104, 29, 96, 46, 4, 84, 132, 3, 1, 167, 255, 203]
abbrev dktX2_takes_3 : List UInt8 := dkwX2_takes_3 ++ dktX2_takes_4
def dkwX2_takes_2 : List UInt8 := [42, 180, 0, 133, 28, 51, 153, 0, 40, 42, 180, 0, 40, 16, 12, 28, 104, 29, 96, 46, 155, 0, 20, 42]
abbrev dktX2_takes_2 : List UInt8 := dkwX2_takes_2 ++ dktX2_takes_3
def dkwX2_takes_1 : List UInt8 := [132, 2, 1, 167, 255, 231, 27, 61, 28, 155, 0, 67, 3, 62, 29, 42, 180, 0, 19, 28, 46, 162, 0, 49]
abbrev dktX2_takes_1 : List UInt8 := dkwX2_takes_1 ++ dktX2_takes_2
def dkwX2_takes_0 : List UInt8 := [3, 61, 28, 16, 16, 162, 0, 25, 42, 180, 0, 133, 28, 28, 27, 160, 0, 7, 4, 167, 0, 4, 3, 84]
abbrev dktX2_takes_0 : List UInt8 := dkwX2_takes_0 ++ dktX2_takes_1
theorem dksX2_takes_0 : cX2_takes.data.toList.drop 0 = dktX2_takes_0 := by decide +kernel
theorem dksX2_takes_1 : cX2_takes.data.toList.drop 24 = dktX2_takes_1 := dk_seg dksX2_takes_0 24 rfl rfl
theorem dksX2_takes_2 : cX2_takes.data.toList.drop 48 = dktX2_takes_2 := dk_seg dksX2_takes_1 24 rfl rfl
theorem dksX2_takes_3 : cX2_takes.data.toList.drop 72 = dktX2_takes_3 := dk_seg dksX2_takes_2 24 rfl rfl
theorem dksX2_takes_4 : cX2_takes.data.toList.drop 94 = dktX2_takes_4 := dk_seg dksX2_takes_3 22 rfl rfl
theorem dksX2_takes_5 : cX2_takes.data.toList.drop 116 = dktX2_takes_5 := dk_seg dksX2_takes_4 22 rfl rfl
theorem dksX2_takes_6 : cX2_takes.data.toList.drop 140 = dktX2_takes_6 := dk_seg dksX2_takes_5 24 rfl rfl
theorem dX2_takes_0 : decode cX2_takes 0 = .ok (.iconst 0, 1) := dk_3 (dk_at dksX2_takes_0 0 rfl rfl)
theorem dX2_takes_1 : decode cX2_takes 1 = .ok (.istore_n 2, 1) := dk_61 (dk_at dksX2_takes_0 1 rfl rfl)
theorem dX2_takes_2 : decode cX2_takes 2 = .ok (.iload_n 2, 1) := dk_28 (dk_at dksX2_takes_0 2 rfl rfl)
theorem dX2_takes_3 : decode cX2_takes 3 = .ok (.bipush 16, 2) := dk_16 16 (dk_at dksX2_takes_0 3 rfl rfl)
theorem dX2_takes_5 : decode cX2_takes 5 = .ok (.if_icmp .ge 25, 3) := dk_162 0 25 (dk_at dksX2_takes_0 5 rfl rfl)
theorem dX2_takes_8 : decode cX2_takes 8 = .ok (.aload_n 0, 1) := dk_42 (dk_at dksX2_takes_0 8 rfl rfl)
theorem dX2_takes_9 : decode cX2_takes 9 = .ok (.getfield 133, 3) := dk_180 0 133 (dk_at dksX2_takes_0 9 rfl rfl)
theorem dX2_takes_12 : decode cX2_takes 12 = .ok (.iload_n 2, 1) := dk_28 (dk_at dksX2_takes_0 12 rfl rfl)
theorem dX2_takes_13 : decode cX2_takes 13 = .ok (.iload_n 2, 1) := dk_28 (dk_at dksX2_takes_0 13 rfl rfl)
theorem dX2_takes_14 : decode cX2_takes 14 = .ok (.iload_n 1, 1) := dk_27 (dk_at dksX2_takes_0 14 rfl rfl)
theorem dX2_takes_15 : decode cX2_takes 15 = .ok (.if_icmp .ne 7, 3) := dk_160 0 7 (dk_at dksX2_takes_0 15 rfl rfl)
theorem dX2_takes_18 : decode cX2_takes 18 = .ok (.iconst 1, 1) := dk_4 (dk_at dksX2_takes_0 18 rfl rfl)
theorem dX2_takes_19 : decode cX2_takes 19 = .ok (.goto 4, 3) := dk_167 0 4 (dk_at dksX2_takes_0 19 rfl rfl)
theorem dX2_takes_22 : decode cX2_takes 22 = .ok (.iconst 0, 1) := dk_3 (dk_at dksX2_takes_0 22 rfl rfl)
theorem dX2_takes_23 : decode cX2_takes 23 = .ok (.bastore, 1) := dk_84 (dk_at dksX2_takes_0 23 rfl rfl)
theorem dX2_takes_24 : decode cX2_takes 24 = .ok (.iinc 2 1, 3) := dk_132 2 1 (dk_at dksX2_takes_1 0 rfl rfl)
theorem dX2_takes_27 : decode cX2_takes 27 = .ok (.goto (-25), 3) := dk_167 255 231 (dk_at dksX2_takes_1 3 rfl rfl)
theorem dX2_takes_30 : decode cX2_takes 30 = .ok (.iload_n 1, 1) := dk_27 (dk_at dksX2_takes_1 6 rfl rfl)
theorem dX2_takes_31 : decode cX2_takes 31 = .ok (.istore_n 2, 1) := dk_61 (dk_at dksX2_takes_1 7 rfl rfl)
theorem dX2_takes_32 : decode cX2_takes 32 = .ok (.iload_n 2, 1) := dk_28 (dk_at dksX2_takes_1 8 rfl rfl)
theorem dX2_takes_33 : decode cX2_takes 33 = .ok (.ifCond .lt 67, 3) := dk_155 0 67 (dk_at dksX2_takes_1 9 rfl rfl)
theorem dX2_takes_36 : decode cX2_takes 36 = .ok (.iconst 0, 1) := dk_3 (dk_at dksX2_takes_1 12 rfl rfl)
theorem dX2_takes_37 : decode cX2_takes 37 = .ok (.istore_n 3, 1) := dk_62 (dk_at dksX2_takes_1 13 rfl rfl)
theorem dX2_takes_38 : decode cX2_takes 38 = .ok (.iload_n 3, 1) := dk_29 (dk_at dksX2_takes_1 14 rfl rfl)
theorem dX2_takes_39 : decode cX2_takes 39 = .ok (.aload_n 0, 1) := dk_42 (dk_at dksX2_takes_1 15 rfl rfl)
theorem dX2_takes_40 : decode cX2_takes 40 = .ok (.getfield 19, 3) := dk_180 0 19 (dk_at dksX2_takes_1 16 rfl rfl)
theorem dX2_takes_43 : decode cX2_takes 43 = .ok (.iload_n 2, 1) := dk_28 (dk_at dksX2_takes_1 19 rfl rfl)
theorem dX2_takes_44 : decode cX2_takes 44 = .ok (.iaload, 1) := dk_46 (dk_at dksX2_takes_1 20 rfl rfl)
theorem dX2_takes_45 : decode cX2_takes 45 = .ok (.if_icmp .ge 49, 3) := dk_162 0 49 (dk_at dksX2_takes_1 21 rfl rfl)
theorem dX2_takes_48 : decode cX2_takes 48 = .ok (.aload_n 0, 1) := dk_42 (dk_at dksX2_takes_2 0 rfl rfl)
theorem dX2_takes_49 : decode cX2_takes 49 = .ok (.getfield 133, 3) := dk_180 0 133 (dk_at dksX2_takes_2 1 rfl rfl)
theorem dX2_takes_52 : decode cX2_takes 52 = .ok (.iload_n 2, 1) := dk_28 (dk_at dksX2_takes_2 4 rfl rfl)
theorem dX2_takes_53 : decode cX2_takes 53 = .ok (.baload, 1) := dk_51 (dk_at dksX2_takes_2 5 rfl rfl)
theorem dX2_takes_54 : decode cX2_takes 54 = .ok (.ifCond .eq 40, 3) := dk_153 0 40 (dk_at dksX2_takes_2 6 rfl rfl)
theorem dX2_takes_57 : decode cX2_takes 57 = .ok (.aload_n 0, 1) := dk_42 (dk_at dksX2_takes_2 9 rfl rfl)
theorem dX2_takes_58 : decode cX2_takes 58 = .ok (.getfield 40, 3) := dk_180 0 40 (dk_at dksX2_takes_2 10 rfl rfl)
theorem dX2_takes_61 : decode cX2_takes 61 = .ok (.bipush 12, 2) := dk_16 12 (dk_at dksX2_takes_2 13 rfl rfl)
theorem dX2_takes_63 : decode cX2_takes 63 = .ok (.iload_n 2, 1) := dk_28 (dk_at dksX2_takes_2 15 rfl rfl)
theorem dX2_takes_64 : decode cX2_takes 64 = .ok (.imul, 1) := dk_104 (dk_at dksX2_takes_2 16 rfl rfl)
theorem dX2_takes_65 : decode cX2_takes 65 = .ok (.iload_n 3, 1) := dk_29 (dk_at dksX2_takes_2 17 rfl rfl)
theorem dX2_takes_66 : decode cX2_takes 66 = .ok (.iadd, 1) := dk_96 (dk_at dksX2_takes_2 18 rfl rfl)
theorem dX2_takes_67 : decode cX2_takes 67 = .ok (.iaload, 1) := dk_46 (dk_at dksX2_takes_2 19 rfl rfl)
theorem dX2_takes_68 : decode cX2_takes 68 = .ok (.ifCond .lt 20, 3) := dk_155 0 20 (dk_at dksX2_takes_2 20 rfl rfl)
theorem dX2_takes_71 : decode cX2_takes 71 = .ok (.aload_n 0, 1) := dk_42 (dk_at dksX2_takes_2 23 rfl rfl)
theorem dX2_takes_72 : decode cX2_takes 72 = .ok (.getfield 133, 3) := dk_180 0 133 (dk_at dksX2_takes_3 0 rfl rfl)
theorem dX2_takes_75 : decode cX2_takes 75 = .ok (.aload_n 0, 1) := dk_42 (dk_at dksX2_takes_3 3 rfl rfl)
theorem dX2_takes_76 : decode cX2_takes 76 = .ok (.getfield 40, 3) := dk_180 0 40 (dk_at dksX2_takes_3 4 rfl rfl)
theorem dX2_takes_79 : decode cX2_takes 79 = .ok (.bipush 12, 2) := dk_16 12 (dk_at dksX2_takes_3 7 rfl rfl)
theorem dX2_takes_81 : decode cX2_takes 81 = .ok (.iload_n 2, 1) := dk_28 (dk_at dksX2_takes_3 9 rfl rfl)
theorem dX2_takes_82 : decode cX2_takes 82 = .ok (.imul, 1) := dk_104 (dk_at dksX2_takes_3 10 rfl rfl)
theorem dX2_takes_83 : decode cX2_takes 83 = .ok (.iload_n 3, 1) := dk_29 (dk_at dksX2_takes_3 11 rfl rfl)
theorem dX2_takes_84 : decode cX2_takes 84 = .ok (.iadd, 1) := dk_96 (dk_at dksX2_takes_3 12 rfl rfl)
theorem dX2_takes_85 : decode cX2_takes 85 = .ok (.iaload, 1) := dk_46 (dk_at dksX2_takes_3 13 rfl rfl)
theorem dX2_takes_86 : decode cX2_takes 86 = .ok (.iconst 1, 1) := dk_4 (dk_at dksX2_takes_3 14 rfl rfl)
theorem dX2_takes_87 : decode cX2_takes 87 = .ok (.bastore, 1) := dk_84 (dk_at dksX2_takes_3 15 rfl rfl)
theorem dX2_takes_88 : decode cX2_takes 88 = .ok (.iinc 3 1, 3) := dk_132 3 1 (dk_at dksX2_takes_3 16 rfl rfl)
theorem dX2_takes_91 : decode cX2_takes 91 = .ok (.goto (-53), 3) := dk_167 255 203 (dk_at dksX2_takes_3 19 rfl rfl)
theorem dX2_takes_94 : decode cX2_takes 94 = .ok (.iinc 2 (-1), 3) := dk_132 2 255 (dk_at dksX2_takes_4 0 rfl rfl)
theorem dX2_takes_97 : decode cX2_takes 97 = .ok (.goto (-65), 3) := dk_167 255 191 (dk_at dksX2_takes_4 3 rfl rfl)
theorem dX2_takes_100 : decode cX2_takes 100 = .ok (.iconst 0, 1) := dk_3 (dk_at dksX2_takes_4 6 rfl rfl)
theorem dX2_takes_101 : decode cX2_takes 101 = .ok (.istore_n 2, 1) := dk_61 (dk_at dksX2_takes_4 7 rfl rfl)
theorem dX2_takes_102 : decode cX2_takes 102 = .ok (.iload_n 2, 1) := dk_28 (dk_at dksX2_takes_4 8 rfl rfl)
theorem dX2_takes_103 : decode cX2_takes 103 = .ok (.iload_n 1, 1) := dk_27 (dk_at dksX2_takes_4 9 rfl rfl)
theorem dX2_takes_104 : decode cX2_takes 104 = .ok (.if_icmp .ge 36, 3) := dk_162 0 36 (dk_at dksX2_takes_4 10 rfl rfl)
theorem dX2_takes_107 : decode cX2_takes 107 = .ok (.aload_n 0, 1) := dk_42 (dk_at dksX2_takes_4 13 rfl rfl)
theorem dX2_takes_108 : decode cX2_takes 108 = .ok (.getfield 133, 3) := dk_180 0 133 (dk_at dksX2_takes_4 14 rfl rfl)
theorem dX2_takes_111 : decode cX2_takes 111 = .ok (.iload_n 2, 1) := dk_28 (dk_at dksX2_takes_4 17 rfl rfl)
theorem dX2_takes_112 : decode cX2_takes 112 = .ok (.baload, 1) := dk_51 (dk_at dksX2_takes_4 18 rfl rfl)
theorem dX2_takes_113 : decode cX2_takes 113 = .ok (.ifCond .ne 6, 3) := dk_154 0 6 (dk_at dksX2_takes_4 19 rfl rfl)
theorem dX2_takes_116 : decode cX2_takes 116 = .ok (.goto 18, 3) := dk_167 0 18 (dk_at dksX2_takes_5 0 rfl rfl)
theorem dX2_takes_119 : decode cX2_takes 119 = .ok (.aload_n 0, 1) := dk_42 (dk_at dksX2_takes_5 3 rfl rfl)
theorem dX2_takes_120 : decode cX2_takes 120 = .ok (.iload_n 2, 1) := dk_28 (dk_at dksX2_takes_5 4 rfl rfl)
theorem dX2_takes_121 : decode cX2_takes 121 = .ok (.invokevirtual 434, 3) := dk_182 1 178 (dk_at dksX2_takes_5 5 rfl rfl)
theorem dX2_takes_124 : decode cX2_takes 124 = .ok (.aload_n 0, 1) := dk_42 (dk_at dksX2_takes_5 8 rfl rfl)
theorem dX2_takes_125 : decode cX2_takes 125 = .ok (.getfield 130, 3) := dk_180 0 130 (dk_at dksX2_takes_5 9 rfl rfl)
theorem dX2_takes_128 : decode cX2_takes 128 = .ok (.iload_n 2, 1) := dk_28 (dk_at dksX2_takes_5 12 rfl rfl)
theorem dX2_takes_129 : decode cX2_takes 129 = .ok (.aload_n 0, 1) := dk_42 (dk_at dksX2_takes_5 13 rfl rfl)
theorem dX2_takes_130 : decode cX2_takes 130 = .ok (.invokevirtual 437, 3) := dk_182 1 181 (dk_at dksX2_takes_5 14 rfl rfl)
theorem dX2_takes_133 : decode cX2_takes 133 = .ok (.bastore, 1) := dk_84 (dk_at dksX2_takes_5 17 rfl rfl)
theorem dX2_takes_134 : decode cX2_takes 134 = .ok (.iinc 2 1, 3) := dk_132 2 1 (dk_at dksX2_takes_5 18 rfl rfl)
theorem dX2_takes_137 : decode cX2_takes 137 = .ok (.goto (-35), 3) := dk_167 255 221 (dk_at dksX2_takes_5 21 rfl rfl)
theorem dX2_takes_140 : decode cX2_takes 140 = .ok (.aload_n 0, 1) := dk_42 (dk_at dksX2_takes_6 0 rfl rfl)
theorem dX2_takes_141 : decode cX2_takes 141 = .ok (.iload_n 1, 1) := dk_27 (dk_at dksX2_takes_6 1 rfl rfl)
theorem dX2_takes_142 : decode cX2_takes 142 = .ok (.invokevirtual 434, 3) := dk_182 1 178 (dk_at dksX2_takes_6 2 rfl rfl)
theorem dX2_takes_145 : decode cX2_takes 145 = .ok (.aload_n 0, 1) := dk_42 (dk_at dksX2_takes_6 5 rfl rfl)
theorem dX2_takes_146 : decode cX2_takes 146 = .ok (.invokevirtual 424, 3) := dk_182 1 168 (dk_at dksX2_takes_6 6 rfl rfl)
theorem dX2_takes_149 : decode cX2_takes 149 = .ok (.return_, 1) := dk_177 (dk_at dksX2_takes_6 9 rfl rfl)
abbrev cX2_isSureNow : ByteArray := prog_23_method_60_code
def yX2_isSureNow : MethodName := ⟨RX2, "isSureNow", "()Z"⟩
def dkwX2_isSureNow_1 : List UInt8 := [27, 182, 1, 175, 42, 180, 1, 125, 154, 0, 5, 3, 172, 132, 1, 1, 167, 255, 231, 4, 172]
abbrev dktX2_isSureNow_1 : List UInt8 := dkwX2_isSureNow_1 ++ []
def dkwX2_isSureNow_0 : List UInt8 := [42, 182, 1, 168, 42, 182, 1, 171, 154, 0, 5, 3, 172, 3, 60, 27, 42, 180, 1, 101, 162, 0, 23, 42]
abbrev dktX2_isSureNow_0 : List UInt8 := dkwX2_isSureNow_0 ++ dktX2_isSureNow_1
theorem dksX2_isSureNow_0 : cX2_isSureNow.data.toList.drop 0 = dktX2_isSureNow_0 := by decide +kernel
theorem dksX2_isSureNow_1 : cX2_isSureNow.data.toList.drop 24 = dktX2_isSureNow_1 := dk_seg dksX2_isSureNow_0 24 rfl rfl
theorem dX2_isSureNow_0 : decode cX2_isSureNow 0 = .ok (.aload_n 0, 1) := dk_42 (dk_at dksX2_isSureNow_0 0 rfl rfl)
theorem dX2_isSureNow_1 : decode cX2_isSureNow 1 = .ok (.invokevirtual 424, 3) := dk_182 1 168 (dk_at dksX2_isSureNow_0 1 rfl rfl)
theorem dX2_isSureNow_4 : decode cX2_isSureNow 4 = .ok (.aload_n 0, 1) := dk_42 (dk_at dksX2_isSureNow_0 4 rfl rfl)
theorem dX2_isSureNow_5 : decode cX2_isSureNow 5 = .ok (.invokevirtual 427, 3) := dk_182 1 171 (dk_at dksX2_isSureNow_0 5 rfl rfl)
theorem dX2_isSureNow_8 : decode cX2_isSureNow 8 = .ok (.ifCond .ne 5, 3) := dk_154 0 5 (dk_at dksX2_isSureNow_0 8 rfl rfl)
theorem dX2_isSureNow_11 : decode cX2_isSureNow 11 = .ok (.iconst 0, 1) := dk_3 (dk_at dksX2_isSureNow_0 11 rfl rfl)
theorem dX2_isSureNow_12 : decode cX2_isSureNow 12 = .ok (.ireturn, 1) := dk_172 (dk_at dksX2_isSureNow_0 12 rfl rfl)
theorem dX2_isSureNow_13 : decode cX2_isSureNow 13 = .ok (.iconst 0, 1) := dk_3 (dk_at dksX2_isSureNow_0 13 rfl rfl)
theorem dX2_isSureNow_14 : decode cX2_isSureNow 14 = .ok (.istore_n 1, 1) := dk_60 (dk_at dksX2_isSureNow_0 14 rfl rfl)
theorem dX2_isSureNow_15 : decode cX2_isSureNow 15 = .ok (.iload_n 1, 1) := dk_27 (dk_at dksX2_isSureNow_0 15 rfl rfl)
theorem dX2_isSureNow_16 : decode cX2_isSureNow 16 = .ok (.aload_n 0, 1) := dk_42 (dk_at dksX2_isSureNow_0 16 rfl rfl)
theorem dX2_isSureNow_17 : decode cX2_isSureNow 17 = .ok (.getfield 357, 3) := dk_180 1 101 (dk_at dksX2_isSureNow_0 17 rfl rfl)
theorem dX2_isSureNow_20 : decode cX2_isSureNow 20 = .ok (.if_icmp .ge 23, 3) := dk_162 0 23 (dk_at dksX2_isSureNow_0 20 rfl rfl)
theorem dX2_isSureNow_23 : decode cX2_isSureNow 23 = .ok (.aload_n 0, 1) := dk_42 (dk_at dksX2_isSureNow_0 23 rfl rfl)
theorem dX2_isSureNow_24 : decode cX2_isSureNow 24 = .ok (.iload_n 1, 1) := dk_27 (dk_at dksX2_isSureNow_1 0 rfl rfl)
theorem dX2_isSureNow_25 : decode cX2_isSureNow 25 = .ok (.invokevirtual 431, 3) := dk_182 1 175 (dk_at dksX2_isSureNow_1 1 rfl rfl)
theorem dX2_isSureNow_28 : decode cX2_isSureNow 28 = .ok (.aload_n 0, 1) := dk_42 (dk_at dksX2_isSureNow_1 4 rfl rfl)
theorem dX2_isSureNow_29 : decode cX2_isSureNow 29 = .ok (.getfield 381, 3) := dk_180 1 125 (dk_at dksX2_isSureNow_1 5 rfl rfl)
theorem dX2_isSureNow_32 : decode cX2_isSureNow 32 = .ok (.ifCond .ne 5, 3) := dk_154 0 5 (dk_at dksX2_isSureNow_1 8 rfl rfl)
theorem dX2_isSureNow_35 : decode cX2_isSureNow 35 = .ok (.iconst 0, 1) := dk_3 (dk_at dksX2_isSureNow_1 11 rfl rfl)
theorem dX2_isSureNow_36 : decode cX2_isSureNow 36 = .ok (.ireturn, 1) := dk_172 (dk_at dksX2_isSureNow_1 12 rfl rfl)
theorem dX2_isSureNow_37 : decode cX2_isSureNow 37 = .ok (.iinc 1 1, 3) := dk_132 1 1 (dk_at dksX2_isSureNow_1 13 rfl rfl)
theorem dX2_isSureNow_40 : decode cX2_isSureNow 40 = .ok (.goto (-25), 3) := dk_167 255 231 (dk_at dksX2_isSureNow_1 16 rfl rfl)
theorem dX2_isSureNow_43 : decode cX2_isSureNow 43 = .ok (.iconst 1, 1) := dk_4 (dk_at dksX2_isSureNow_1 19 rfl rfl)
theorem dX2_isSureNow_44 : decode cX2_isSureNow 44 = .ok (.ireturn, 1) := dk_172 (dk_at dksX2_isSureNow_1 20 rfl rfl)
abbrev cX2_looks : ByteArray := prog_23_method_57_code
def yX2_looks : MethodName := ⟨RX2, "looks", "(I)V"⟩
def dkwX2_looks_0 : List UInt8 := [42, 27, 182, 1, 156, 42, 182, 1, 159, 42, 182, 1, 162, 177]
abbrev dktX2_looks_0 : List UInt8 := dkwX2_looks_0 ++ []
theorem dksX2_looks_0 : cX2_looks.data.toList.drop 0 = dktX2_looks_0 := by decide +kernel
theorem dX2_looks_0 : decode cX2_looks 0 = .ok (.aload_n 0, 1) := dk_42 (dk_at dksX2_looks_0 0 rfl rfl)
theorem dX2_looks_1 : decode cX2_looks 1 = .ok (.iload_n 1, 1) := dk_27 (dk_at dksX2_looks_0 1 rfl rfl)
theorem dX2_looks_2 : decode cX2_looks 2 = .ok (.invokevirtual 412, 3) := dk_182 1 156 (dk_at dksX2_looks_0 2 rfl rfl)
theorem dX2_looks_5 : decode cX2_looks 5 = .ok (.aload_n 0, 1) := dk_42 (dk_at dksX2_looks_0 5 rfl rfl)
theorem dX2_looks_6 : decode cX2_looks 6 = .ok (.invokevirtual 415, 3) := dk_182 1 159 (dk_at dksX2_looks_0 6 rfl rfl)
theorem dX2_looks_9 : decode cX2_looks 9 = .ok (.aload_n 0, 1) := dk_42 (dk_at dksX2_looks_0 9 rfl rfl)
theorem dX2_looks_10 : decode cX2_looks 10 = .ok (.invokevirtual 418, 3) := dk_182 1 162 (dk_at dksX2_looks_0 10 rfl rfl)
theorem dX2_looks_13 : decode cX2_looks 13 = .ok (.return_, 1) := dk_177 (dk_at dksX2_looks_0 13 rfl rfl)
abbrev cX2_findOffers : ByteArray := prog_23_method_50_code
def yX2_findOffers : MethodName := ⟨RX2, "findOffers", "()V"⟩
def dkwX2_findOffers_7 : List UInt8 := [16, 7, 46, 96, 4, 96, 7, 182, 1, 119, 132, 1, 1, 167, 255, 79, 177]
abbrev dktX2_findOffers_7 : List UInt8 := dkwX2_findOffers_7 ++ []
def dkwX2_findOffers_6 : List UInt8 := [155, 0, 34, 42, 180, 0, 112, 27, 46, 155, 0, 25, 42, 27, 42, 180, 0, 112, 27, 46, 42, 180, 0, 66]
abbrev dktX2_findOffers_6 : List UInt8 := dkwX2_findOffers_6 ++ dktX2_findOffers_7
def dkwX2_findOffers_5 : List UInt8 := [42, 27, 42, 180, 0, 78, 27, 46, 4, 96, 6, 182, 1, 119, 167, 0, 44, 42, 180, 0, 66, 16, 7, 46]
abbrev dktX2_findOffers_5 : List UInt8 := dkwX2_findOffers_5 ++ dktX2_findOffers_6
def dkwX2_findOffers_4 : List UInt8 := [28, 27, 182, 1, 122, 5, 182, 1, 119, 132, 2, 1, 167, 255, 221, 42, 180, 0, 78, 27, 46, 155, 0, 20]
abbrev dktX2_findOffers_4 : List UInt8 := dkwX2_findOffers_4 ++ dktX2_findOffers_5
def dkwX2_findOffers_3 : List UInt8 := [61, 28, 42, 180, 1, 95, 162, 0, 33, 42, 27, 42, 28, 27, 182, 1, 116, 4, 182, 1, 119, 42, 27, 42]
abbrev dktX2_findOffers_3 : List UInt8 := dkwX2_findOffers_3 ++ dktX2_findOffers_4
def dkwX2_findOffers_2 : List UInt8 := [46, 182, 1, 107, 79, 42, 180, 0, 124, 27, 17, 39, 15, 79, 42, 180, 0, 127, 27, 3, 79, 27, 4, 96]
abbrev dktX2_findOffers_2 : List UInt8 := dkwX2_findOffers_2 ++ dktX2_findOffers_3
def dkwX2_findOffers_1 : List UInt8 := [180, 0, 121, 27, 42, 180, 0, 90, 27, 51, 153, 0, 7, 2, 167, 0, 14, 42, 27, 42, 180, 0, 66, 6]
abbrev dktX2_findOffers_1 : List UInt8 := dkwX2_findOffers_1 ++ dktX2_findOffers_2
def dkwX2_findOffers_0 : List UInt8 := [3, 60, 27, 42, 180, 1, 95, 162, 0, 175, 42, 27, 182, 1, 113, 154, 0, 6, 167, 0, 158, 42]
abbrev dktX2_findOffers_0 : List UInt8 := dkwX2_findOffers_0 ++ dktX2_findOffers_1
theorem dksX2_findOffers_0 : cX2_findOffers.data.toList.drop 0 = dktX2_findOffers_0 := by decide +kernel
theorem dksX2_findOffers_1 : cX2_findOffers.data.toList.drop 22 = dktX2_findOffers_1 := dk_seg dksX2_findOffers_0 22 rfl rfl
theorem dksX2_findOffers_2 : cX2_findOffers.data.toList.drop 46 = dktX2_findOffers_2 := dk_seg dksX2_findOffers_1 24 rfl rfl
theorem dksX2_findOffers_3 : cX2_findOffers.data.toList.drop 70 = dktX2_findOffers_3 := dk_seg dksX2_findOffers_2 24 rfl rfl
theorem dksX2_findOffers_4 : cX2_findOffers.data.toList.drop 94 = dktX2_findOffers_4 := dk_seg dksX2_findOffers_3 24 rfl rfl
theorem dksX2_findOffers_5 : cX2_findOffers.data.toList.drop 118 = dktX2_findOffers_5 := dk_seg dksX2_findOffers_4 24 rfl rfl
theorem dksX2_findOffers_6 : cX2_findOffers.data.toList.drop 142 = dktX2_findOffers_6 := dk_seg dksX2_findOffers_5 24 rfl rfl
theorem dksX2_findOffers_7 : cX2_findOffers.data.toList.drop 166 = dktX2_findOffers_7 := dk_seg dksX2_findOffers_6 24 rfl rfl
theorem dX2_findOffers_0 : decode cX2_findOffers 0 = .ok (.iconst 0, 1) := dk_3 (dk_at dksX2_findOffers_0 0 rfl rfl)
theorem dX2_findOffers_1 : decode cX2_findOffers 1 = .ok (.istore_n 1, 1) := dk_60 (dk_at dksX2_findOffers_0 1 rfl rfl)
theorem dX2_findOffers_2 : decode cX2_findOffers 2 = .ok (.iload_n 1, 1) := dk_27 (dk_at dksX2_findOffers_0 2 rfl rfl)
theorem dX2_findOffers_3 : decode cX2_findOffers 3 = .ok (.aload_n 0, 1) := dk_42 (dk_at dksX2_findOffers_0 3 rfl rfl)
theorem dX2_findOffers_4 : decode cX2_findOffers 4 = .ok (.getfield 351, 3) := dk_180 1 95 (dk_at dksX2_findOffers_0 4 rfl rfl)
theorem dX2_findOffers_7 : decode cX2_findOffers 7 = .ok (.if_icmp .ge 175, 3) := dk_162 0 175 (dk_at dksX2_findOffers_0 7 rfl rfl)
theorem dX2_findOffers_10 : decode cX2_findOffers 10 = .ok (.aload_n 0, 1) := dk_42 (dk_at dksX2_findOffers_0 10 rfl rfl)
theorem dX2_findOffers_11 : decode cX2_findOffers 11 = .ok (.iload_n 1, 1) := dk_27 (dk_at dksX2_findOffers_0 11 rfl rfl)
theorem dX2_findOffers_12 : decode cX2_findOffers 12 = .ok (.invokevirtual 369, 3) := dk_182 1 113 (dk_at dksX2_findOffers_0 12 rfl rfl)
theorem dX2_findOffers_15 : decode cX2_findOffers 15 = .ok (.ifCond .ne 6, 3) := dk_154 0 6 (dk_at dksX2_findOffers_0 15 rfl rfl)
theorem dX2_findOffers_18 : decode cX2_findOffers 18 = .ok (.goto 158, 3) := dk_167 0 158 (dk_at dksX2_findOffers_0 18 rfl rfl)
theorem dX2_findOffers_21 : decode cX2_findOffers 21 = .ok (.aload_n 0, 1) := dk_42 (dk_at dksX2_findOffers_0 21 rfl rfl)
theorem dX2_findOffers_22 : decode cX2_findOffers 22 = .ok (.getfield 121, 3) := dk_180 0 121 (dk_at dksX2_findOffers_1 0 rfl rfl)
theorem dX2_findOffers_25 : decode cX2_findOffers 25 = .ok (.iload_n 1, 1) := dk_27 (dk_at dksX2_findOffers_1 3 rfl rfl)
theorem dX2_findOffers_26 : decode cX2_findOffers 26 = .ok (.aload_n 0, 1) := dk_42 (dk_at dksX2_findOffers_1 4 rfl rfl)
theorem dX2_findOffers_27 : decode cX2_findOffers 27 = .ok (.getfield 90, 3) := dk_180 0 90 (dk_at dksX2_findOffers_1 5 rfl rfl)
theorem dX2_findOffers_30 : decode cX2_findOffers 30 = .ok (.iload_n 1, 1) := dk_27 (dk_at dksX2_findOffers_1 8 rfl rfl)
theorem dX2_findOffers_31 : decode cX2_findOffers 31 = .ok (.baload, 1) := dk_51 (dk_at dksX2_findOffers_1 9 rfl rfl)
theorem dX2_findOffers_32 : decode cX2_findOffers 32 = .ok (.ifCond .eq 7, 3) := dk_153 0 7 (dk_at dksX2_findOffers_1 10 rfl rfl)
theorem dX2_findOffers_35 : decode cX2_findOffers 35 = .ok (.iconst (-1), 1) := dk_2 (dk_at dksX2_findOffers_1 13 rfl rfl)
theorem dX2_findOffers_36 : decode cX2_findOffers 36 = .ok (.goto 14, 3) := dk_167 0 14 (dk_at dksX2_findOffers_1 14 rfl rfl)
theorem dX2_findOffers_39 : decode cX2_findOffers 39 = .ok (.aload_n 0, 1) := dk_42 (dk_at dksX2_findOffers_1 17 rfl rfl)
theorem dX2_findOffers_40 : decode cX2_findOffers 40 = .ok (.iload_n 1, 1) := dk_27 (dk_at dksX2_findOffers_1 18 rfl rfl)
theorem dX2_findOffers_41 : decode cX2_findOffers 41 = .ok (.aload_n 0, 1) := dk_42 (dk_at dksX2_findOffers_1 19 rfl rfl)
theorem dX2_findOffers_42 : decode cX2_findOffers 42 = .ok (.getfield 66, 3) := dk_180 0 66 (dk_at dksX2_findOffers_1 20 rfl rfl)
theorem dX2_findOffers_45 : decode cX2_findOffers 45 = .ok (.iconst 3, 1) := dk_6 (dk_at dksX2_findOffers_1 23 rfl rfl)
theorem dX2_findOffers_46 : decode cX2_findOffers 46 = .ok (.iaload, 1) := dk_46 (dk_at dksX2_findOffers_2 0 rfl rfl)
theorem dX2_findOffers_47 : decode cX2_findOffers 47 = .ok (.invokevirtual 363, 3) := dk_182 1 107 (dk_at dksX2_findOffers_2 1 rfl rfl)
theorem dX2_findOffers_50 : decode cX2_findOffers 50 = .ok (.iastore, 1) := dk_79 (dk_at dksX2_findOffers_2 4 rfl rfl)
theorem dX2_findOffers_51 : decode cX2_findOffers 51 = .ok (.aload_n 0, 1) := dk_42 (dk_at dksX2_findOffers_2 5 rfl rfl)
theorem dX2_findOffers_52 : decode cX2_findOffers 52 = .ok (.getfield 124, 3) := dk_180 0 124 (dk_at dksX2_findOffers_2 6 rfl rfl)
theorem dX2_findOffers_55 : decode cX2_findOffers 55 = .ok (.iload_n 1, 1) := dk_27 (dk_at dksX2_findOffers_2 9 rfl rfl)
theorem dX2_findOffers_56 : decode cX2_findOffers 56 = .ok (.sipush 9999, 3) := dk_17 39 15 (dk_at dksX2_findOffers_2 10 rfl rfl)
theorem dX2_findOffers_59 : decode cX2_findOffers 59 = .ok (.iastore, 1) := dk_79 (dk_at dksX2_findOffers_2 13 rfl rfl)
theorem dX2_findOffers_60 : decode cX2_findOffers 60 = .ok (.aload_n 0, 1) := dk_42 (dk_at dksX2_findOffers_2 14 rfl rfl)
theorem dX2_findOffers_61 : decode cX2_findOffers 61 = .ok (.getfield 127, 3) := dk_180 0 127 (dk_at dksX2_findOffers_2 15 rfl rfl)
theorem dX2_findOffers_64 : decode cX2_findOffers 64 = .ok (.iload_n 1, 1) := dk_27 (dk_at dksX2_findOffers_2 18 rfl rfl)
theorem dX2_findOffers_65 : decode cX2_findOffers 65 = .ok (.iconst 0, 1) := dk_3 (dk_at dksX2_findOffers_2 19 rfl rfl)
theorem dX2_findOffers_66 : decode cX2_findOffers 66 = .ok (.iastore, 1) := dk_79 (dk_at dksX2_findOffers_2 20 rfl rfl)
theorem dX2_findOffers_67 : decode cX2_findOffers 67 = .ok (.iload_n 1, 1) := dk_27 (dk_at dksX2_findOffers_2 21 rfl rfl)
theorem dX2_findOffers_68 : decode cX2_findOffers 68 = .ok (.iconst 1, 1) := dk_4 (dk_at dksX2_findOffers_2 22 rfl rfl)
theorem dX2_findOffers_69 : decode cX2_findOffers 69 = .ok (.iadd, 1) := dk_96 (dk_at dksX2_findOffers_2 23 rfl rfl)
theorem dX2_findOffers_70 : decode cX2_findOffers 70 = .ok (.istore_n 2, 1) := dk_61 (dk_at dksX2_findOffers_3 0 rfl rfl)
theorem dX2_findOffers_71 : decode cX2_findOffers 71 = .ok (.iload_n 2, 1) := dk_28 (dk_at dksX2_findOffers_3 1 rfl rfl)
theorem dX2_findOffers_72 : decode cX2_findOffers 72 = .ok (.aload_n 0, 1) := dk_42 (dk_at dksX2_findOffers_3 2 rfl rfl)
theorem dX2_findOffers_73 : decode cX2_findOffers 73 = .ok (.getfield 351, 3) := dk_180 1 95 (dk_at dksX2_findOffers_3 3 rfl rfl)
theorem dX2_findOffers_76 : decode cX2_findOffers 76 = .ok (.if_icmp .ge 33, 3) := dk_162 0 33 (dk_at dksX2_findOffers_3 6 rfl rfl)
theorem dX2_findOffers_79 : decode cX2_findOffers 79 = .ok (.aload_n 0, 1) := dk_42 (dk_at dksX2_findOffers_3 9 rfl rfl)
theorem dX2_findOffers_80 : decode cX2_findOffers 80 = .ok (.iload_n 1, 1) := dk_27 (dk_at dksX2_findOffers_3 10 rfl rfl)
theorem dX2_findOffers_81 : decode cX2_findOffers 81 = .ok (.aload_n 0, 1) := dk_42 (dk_at dksX2_findOffers_3 11 rfl rfl)
theorem dX2_findOffers_82 : decode cX2_findOffers 82 = .ok (.iload_n 2, 1) := dk_28 (dk_at dksX2_findOffers_3 12 rfl rfl)
theorem dX2_findOffers_83 : decode cX2_findOffers 83 = .ok (.iload_n 1, 1) := dk_27 (dk_at dksX2_findOffers_3 13 rfl rfl)
theorem dX2_findOffers_84 : decode cX2_findOffers 84 = .ok (.invokevirtual 372, 3) := dk_182 1 116 (dk_at dksX2_findOffers_3 14 rfl rfl)
theorem dX2_findOffers_87 : decode cX2_findOffers 87 = .ok (.iconst 1, 1) := dk_4 (dk_at dksX2_findOffers_3 17 rfl rfl)
theorem dX2_findOffers_88 : decode cX2_findOffers 88 = .ok (.invokevirtual 375, 3) := dk_182 1 119 (dk_at dksX2_findOffers_3 18 rfl rfl)
theorem dX2_findOffers_91 : decode cX2_findOffers 91 = .ok (.aload_n 0, 1) := dk_42 (dk_at dksX2_findOffers_3 21 rfl rfl)
theorem dX2_findOffers_92 : decode cX2_findOffers 92 = .ok (.iload_n 1, 1) := dk_27 (dk_at dksX2_findOffers_3 22 rfl rfl)
theorem dX2_findOffers_93 : decode cX2_findOffers 93 = .ok (.aload_n 0, 1) := dk_42 (dk_at dksX2_findOffers_3 23 rfl rfl)
theorem dX2_findOffers_94 : decode cX2_findOffers 94 = .ok (.iload_n 2, 1) := dk_28 (dk_at dksX2_findOffers_4 0 rfl rfl)
theorem dX2_findOffers_95 : decode cX2_findOffers 95 = .ok (.iload_n 1, 1) := dk_27 (dk_at dksX2_findOffers_4 1 rfl rfl)
theorem dX2_findOffers_96 : decode cX2_findOffers 96 = .ok (.invokevirtual 378, 3) := dk_182 1 122 (dk_at dksX2_findOffers_4 2 rfl rfl)
theorem dX2_findOffers_99 : decode cX2_findOffers 99 = .ok (.iconst 2, 1) := dk_5 (dk_at dksX2_findOffers_4 5 rfl rfl)
theorem dX2_findOffers_100 : decode cX2_findOffers 100 = .ok (.invokevirtual 375, 3) := dk_182 1 119 (dk_at dksX2_findOffers_4 6 rfl rfl)
theorem dX2_findOffers_103 : decode cX2_findOffers 103 = .ok (.iinc 2 1, 3) := dk_132 2 1 (dk_at dksX2_findOffers_4 9 rfl rfl)
theorem dX2_findOffers_106 : decode cX2_findOffers 106 = .ok (.goto (-35), 3) := dk_167 255 221 (dk_at dksX2_findOffers_4 12 rfl rfl)
theorem dX2_findOffers_109 : decode cX2_findOffers 109 = .ok (.aload_n 0, 1) := dk_42 (dk_at dksX2_findOffers_4 15 rfl rfl)
theorem dX2_findOffers_110 : decode cX2_findOffers 110 = .ok (.getfield 78, 3) := dk_180 0 78 (dk_at dksX2_findOffers_4 16 rfl rfl)
theorem dX2_findOffers_113 : decode cX2_findOffers 113 = .ok (.iload_n 1, 1) := dk_27 (dk_at dksX2_findOffers_4 19 rfl rfl)
theorem dX2_findOffers_114 : decode cX2_findOffers 114 = .ok (.iaload, 1) := dk_46 (dk_at dksX2_findOffers_4 20 rfl rfl)
theorem dX2_findOffers_115 : decode cX2_findOffers 115 = .ok (.ifCond .lt 20, 3) := dk_155 0 20 (dk_at dksX2_findOffers_4 21 rfl rfl)
theorem dX2_findOffers_118 : decode cX2_findOffers 118 = .ok (.aload_n 0, 1) := dk_42 (dk_at dksX2_findOffers_5 0 rfl rfl)
theorem dX2_findOffers_119 : decode cX2_findOffers 119 = .ok (.iload_n 1, 1) := dk_27 (dk_at dksX2_findOffers_5 1 rfl rfl)
theorem dX2_findOffers_120 : decode cX2_findOffers 120 = .ok (.aload_n 0, 1) := dk_42 (dk_at dksX2_findOffers_5 2 rfl rfl)
theorem dX2_findOffers_121 : decode cX2_findOffers 121 = .ok (.getfield 78, 3) := dk_180 0 78 (dk_at dksX2_findOffers_5 3 rfl rfl)
theorem dX2_findOffers_124 : decode cX2_findOffers 124 = .ok (.iload_n 1, 1) := dk_27 (dk_at dksX2_findOffers_5 6 rfl rfl)
theorem dX2_findOffers_125 : decode cX2_findOffers 125 = .ok (.iaload, 1) := dk_46 (dk_at dksX2_findOffers_5 7 rfl rfl)
theorem dX2_findOffers_126 : decode cX2_findOffers 126 = .ok (.iconst 1, 1) := dk_4 (dk_at dksX2_findOffers_5 8 rfl rfl)
theorem dX2_findOffers_127 : decode cX2_findOffers 127 = .ok (.iadd, 1) := dk_96 (dk_at dksX2_findOffers_5 9 rfl rfl)
theorem dX2_findOffers_128 : decode cX2_findOffers 128 = .ok (.iconst 3, 1) := dk_6 (dk_at dksX2_findOffers_5 10 rfl rfl)
theorem dX2_findOffers_129 : decode cX2_findOffers 129 = .ok (.invokevirtual 375, 3) := dk_182 1 119 (dk_at dksX2_findOffers_5 11 rfl rfl)
theorem dX2_findOffers_132 : decode cX2_findOffers 132 = .ok (.goto 44, 3) := dk_167 0 44 (dk_at dksX2_findOffers_5 14 rfl rfl)
theorem dX2_findOffers_135 : decode cX2_findOffers 135 = .ok (.aload_n 0, 1) := dk_42 (dk_at dksX2_findOffers_5 17 rfl rfl)
theorem dX2_findOffers_136 : decode cX2_findOffers 136 = .ok (.getfield 66, 3) := dk_180 0 66 (dk_at dksX2_findOffers_5 18 rfl rfl)
theorem dX2_findOffers_139 : decode cX2_findOffers 139 = .ok (.bipush 7, 2) := dk_16 7 (dk_at dksX2_findOffers_5 21 rfl rfl)
theorem dX2_findOffers_141 : decode cX2_findOffers 141 = .ok (.iaload, 1) := dk_46 (dk_at dksX2_findOffers_5 23 rfl rfl)
theorem dX2_findOffers_142 : decode cX2_findOffers 142 = .ok (.ifCond .lt 34, 3) := dk_155 0 34 (dk_at dksX2_findOffers_6 0 rfl rfl)
theorem dX2_findOffers_145 : decode cX2_findOffers 145 = .ok (.aload_n 0, 1) := dk_42 (dk_at dksX2_findOffers_6 3 rfl rfl)
theorem dX2_findOffers_146 : decode cX2_findOffers 146 = .ok (.getfield 112, 3) := dk_180 0 112 (dk_at dksX2_findOffers_6 4 rfl rfl)
theorem dX2_findOffers_149 : decode cX2_findOffers 149 = .ok (.iload_n 1, 1) := dk_27 (dk_at dksX2_findOffers_6 7 rfl rfl)
theorem dX2_findOffers_150 : decode cX2_findOffers 150 = .ok (.iaload, 1) := dk_46 (dk_at dksX2_findOffers_6 8 rfl rfl)
theorem dX2_findOffers_151 : decode cX2_findOffers 151 = .ok (.ifCond .lt 25, 3) := dk_155 0 25 (dk_at dksX2_findOffers_6 9 rfl rfl)
theorem dX2_findOffers_154 : decode cX2_findOffers 154 = .ok (.aload_n 0, 1) := dk_42 (dk_at dksX2_findOffers_6 12 rfl rfl)
theorem dX2_findOffers_155 : decode cX2_findOffers 155 = .ok (.iload_n 1, 1) := dk_27 (dk_at dksX2_findOffers_6 13 rfl rfl)
theorem dX2_findOffers_156 : decode cX2_findOffers 156 = .ok (.aload_n 0, 1) := dk_42 (dk_at dksX2_findOffers_6 14 rfl rfl)
theorem dX2_findOffers_157 : decode cX2_findOffers 157 = .ok (.getfield 112, 3) := dk_180 0 112 (dk_at dksX2_findOffers_6 15 rfl rfl)
theorem dX2_findOffers_160 : decode cX2_findOffers 160 = .ok (.iload_n 1, 1) := dk_27 (dk_at dksX2_findOffers_6 18 rfl rfl)
theorem dX2_findOffers_161 : decode cX2_findOffers 161 = .ok (.iaload, 1) := dk_46 (dk_at dksX2_findOffers_6 19 rfl rfl)
theorem dX2_findOffers_162 : decode cX2_findOffers 162 = .ok (.aload_n 0, 1) := dk_42 (dk_at dksX2_findOffers_6 20 rfl rfl)
theorem dX2_findOffers_163 : decode cX2_findOffers 163 = .ok (.getfield 66, 3) := dk_180 0 66 (dk_at dksX2_findOffers_6 21 rfl rfl)
theorem dX2_findOffers_166 : decode cX2_findOffers 166 = .ok (.bipush 7, 2) := dk_16 7 (dk_at dksX2_findOffers_7 0 rfl rfl)
theorem dX2_findOffers_168 : decode cX2_findOffers 168 = .ok (.iaload, 1) := dk_46 (dk_at dksX2_findOffers_7 2 rfl rfl)
theorem dX2_findOffers_169 : decode cX2_findOffers 169 = .ok (.iadd, 1) := dk_96 (dk_at dksX2_findOffers_7 3 rfl rfl)
theorem dX2_findOffers_170 : decode cX2_findOffers 170 = .ok (.iconst 1, 1) := dk_4 (dk_at dksX2_findOffers_7 4 rfl rfl)
theorem dX2_findOffers_171 : decode cX2_findOffers 171 = .ok (.iadd, 1) := dk_96 (dk_at dksX2_findOffers_7 5 rfl rfl)
theorem dX2_findOffers_172 : decode cX2_findOffers 172 = .ok (.iconst 4, 1) := dk_7 (dk_at dksX2_findOffers_7 6 rfl rfl)
theorem dX2_findOffers_173 : decode cX2_findOffers 173 = .ok (.invokevirtual 375, 3) := dk_182 1 119 (dk_at dksX2_findOffers_7 7 rfl rfl)
theorem dX2_findOffers_176 : decode cX2_findOffers 176 = .ok (.iinc 1 1, 3) := dk_132 1 1 (dk_at dksX2_findOffers_7 10 rfl rfl)
theorem dX2_findOffers_179 : decode cX2_findOffers 179 = .ok (.goto (-177), 3) := dk_167 255 79 (dk_at dksX2_findOffers_7 13 rfl rfl)
theorem dX2_findOffers_182 : decode cX2_findOffers 182 = .ok (.return_, 1) := dk_177 (dk_at dksX2_findOffers_7 16 rfl rfl)
abbrev cX2_isOffering : ByteArray := prog_23_method_44_code
def yX2_isOffering : MethodName := ⟨RX2, "isOffering", "(I)Z"⟩
def dkwX2_isOffering_1 : List UInt8 := [154, 0, 7, 4, 167, 0, 4, 3, 172]
abbrev dktX2_isOffering_1 : List UInt8 := dkwX2_isOffering_1 ++ []
def dkwX2_isOffering_0 : List UInt8 := [42, 180, 0, 69, 27, 46, 153, 0, 21, 42, 180, 0, 69, 27, 46, 6, 160, 0, 15, 42, 27, 182, 1, 104]
abbrev dktX2_isOffering_0 : List UInt8 := dkwX2_isOffering_0 ++ dktX2_isOffering_1
theorem dksX2_isOffering_0 : cX2_isOffering.data.toList.drop 0 = dktX2_isOffering_0 := by decide +kernel
theorem dksX2_isOffering_1 : cX2_isOffering.data.toList.drop 24 = dktX2_isOffering_1 := dk_seg dksX2_isOffering_0 24 rfl rfl
theorem dX2_isOffering_0 : decode cX2_isOffering 0 = .ok (.aload_n 0, 1) := dk_42 (dk_at dksX2_isOffering_0 0 rfl rfl)
theorem dX2_isOffering_1 : decode cX2_isOffering 1 = .ok (.getfield 69, 3) := dk_180 0 69 (dk_at dksX2_isOffering_0 1 rfl rfl)
theorem dX2_isOffering_4 : decode cX2_isOffering 4 = .ok (.iload_n 1, 1) := dk_27 (dk_at dksX2_isOffering_0 4 rfl rfl)
theorem dX2_isOffering_5 : decode cX2_isOffering 5 = .ok (.iaload, 1) := dk_46 (dk_at dksX2_isOffering_0 5 rfl rfl)
theorem dX2_isOffering_6 : decode cX2_isOffering 6 = .ok (.ifCond .eq 21, 3) := dk_153 0 21 (dk_at dksX2_isOffering_0 6 rfl rfl)
theorem dX2_isOffering_9 : decode cX2_isOffering 9 = .ok (.aload_n 0, 1) := dk_42 (dk_at dksX2_isOffering_0 9 rfl rfl)
theorem dX2_isOffering_10 : decode cX2_isOffering 10 = .ok (.getfield 69, 3) := dk_180 0 69 (dk_at dksX2_isOffering_0 10 rfl rfl)
theorem dX2_isOffering_13 : decode cX2_isOffering 13 = .ok (.iload_n 1, 1) := dk_27 (dk_at dksX2_isOffering_0 13 rfl rfl)
theorem dX2_isOffering_14 : decode cX2_isOffering 14 = .ok (.iaload, 1) := dk_46 (dk_at dksX2_isOffering_0 14 rfl rfl)
theorem dX2_isOffering_15 : decode cX2_isOffering 15 = .ok (.iconst 3, 1) := dk_6 (dk_at dksX2_isOffering_0 15 rfl rfl)
theorem dX2_isOffering_16 : decode cX2_isOffering 16 = .ok (.if_icmp .ne 15, 3) := dk_160 0 15 (dk_at dksX2_isOffering_0 16 rfl rfl)
theorem dX2_isOffering_19 : decode cX2_isOffering 19 = .ok (.aload_n 0, 1) := dk_42 (dk_at dksX2_isOffering_0 19 rfl rfl)
theorem dX2_isOffering_20 : decode cX2_isOffering 20 = .ok (.iload_n 1, 1) := dk_27 (dk_at dksX2_isOffering_0 20 rfl rfl)
theorem dX2_isOffering_21 : decode cX2_isOffering 21 = .ok (.invokevirtual 360, 3) := dk_182 1 104 (dk_at dksX2_isOffering_0 21 rfl rfl)
theorem dX2_isOffering_24 : decode cX2_isOffering 24 = .ok (.ifCond .ne 7, 3) := dk_154 0 7 (dk_at dksX2_isOffering_1 0 rfl rfl)
theorem dX2_isOffering_27 : decode cX2_isOffering 27 = .ok (.iconst 1, 1) := dk_4 (dk_at dksX2_isOffering_1 3 rfl rfl)
theorem dX2_isOffering_28 : decode cX2_isOffering 28 = .ok (.goto 4, 3) := dk_167 0 4 (dk_at dksX2_isOffering_1 4 rfl rfl)
theorem dX2_isOffering_31 : decode cX2_isOffering 31 = .ok (.iconst 0, 1) := dk_3 (dk_at dksX2_isOffering_1 7 rfl rfl)
theorem dX2_isOffering_32 : decode cX2_isOffering 32 = .ok (.ireturn, 1) := dk_172 (dk_at dksX2_isOffering_1 8 rfl rfl)
abbrev cX2_isSmall : ByteArray := prog_23_method_43_code
def yX2_isSmall : MethodName := ⟨RX2, "isSmall", "(I)Z"⟩
def dkwX2_isSmall_2 : List UInt8 := [180, 0, 94, 28, 5, 96, 46, 156, 0, 7, 4, 167, 0, 4, 3, 172]
abbrev dktX2_isSmall_2 : List UInt8 := dkwX2_isSmall_2 ++ []
def dkwX2_isSmall_1 : List UInt8 := [104, 61, 42, 180, 0, 94, 28, 46, 156, 0, 29, 42, 180, 0, 94, 28, 4, 96, 46, 156, 0, 18, 42]
abbrev dktX2_isSmall_1 : List UInt8 := dkwX2_isSmall_1 ++ dktX2_isSmall_2
def dkwX2_isSmall_0 : List UInt8 := [42, 180, 0, 69, 27, 46, 6, 160, 0, 13, 42, 180, 0, 66, 16, 9, 46, 154, 0, 5, 3, 172, 8, 27]
abbrev dktX2_isSmall_0 : List UInt8 := dkwX2_isSmall_0 ++ dktX2_isSmall_1
theorem dksX2_isSmall_0 : cX2_isSmall.data.toList.drop 0 = dktX2_isSmall_0 := by decide +kernel
theorem dksX2_isSmall_1 : cX2_isSmall.data.toList.drop 24 = dktX2_isSmall_1 := dk_seg dksX2_isSmall_0 24 rfl rfl
theorem dksX2_isSmall_2 : cX2_isSmall.data.toList.drop 47 = dktX2_isSmall_2 := dk_seg dksX2_isSmall_1 23 rfl rfl
theorem dX2_isSmall_0 : decode cX2_isSmall 0 = .ok (.aload_n 0, 1) := dk_42 (dk_at dksX2_isSmall_0 0 rfl rfl)
theorem dX2_isSmall_1 : decode cX2_isSmall 1 = .ok (.getfield 69, 3) := dk_180 0 69 (dk_at dksX2_isSmall_0 1 rfl rfl)
theorem dX2_isSmall_4 : decode cX2_isSmall 4 = .ok (.iload_n 1, 1) := dk_27 (dk_at dksX2_isSmall_0 4 rfl rfl)
theorem dX2_isSmall_5 : decode cX2_isSmall 5 = .ok (.iaload, 1) := dk_46 (dk_at dksX2_isSmall_0 5 rfl rfl)
theorem dX2_isSmall_6 : decode cX2_isSmall 6 = .ok (.iconst 3, 1) := dk_6 (dk_at dksX2_isSmall_0 6 rfl rfl)
theorem dX2_isSmall_7 : decode cX2_isSmall 7 = .ok (.if_icmp .ne 13, 3) := dk_160 0 13 (dk_at dksX2_isSmall_0 7 rfl rfl)
theorem dX2_isSmall_10 : decode cX2_isSmall 10 = .ok (.aload_n 0, 1) := dk_42 (dk_at dksX2_isSmall_0 10 rfl rfl)
theorem dX2_isSmall_11 : decode cX2_isSmall 11 = .ok (.getfield 66, 3) := dk_180 0 66 (dk_at dksX2_isSmall_0 11 rfl rfl)
theorem dX2_isSmall_14 : decode cX2_isSmall 14 = .ok (.bipush 9, 2) := dk_16 9 (dk_at dksX2_isSmall_0 14 rfl rfl)
theorem dX2_isSmall_16 : decode cX2_isSmall 16 = .ok (.iaload, 1) := dk_46 (dk_at dksX2_isSmall_0 16 rfl rfl)
theorem dX2_isSmall_17 : decode cX2_isSmall 17 = .ok (.ifCond .ne 5, 3) := dk_154 0 5 (dk_at dksX2_isSmall_0 17 rfl rfl)
theorem dX2_isSmall_20 : decode cX2_isSmall 20 = .ok (.iconst 0, 1) := dk_3 (dk_at dksX2_isSmall_0 20 rfl rfl)
theorem dX2_isSmall_21 : decode cX2_isSmall 21 = .ok (.ireturn, 1) := dk_172 (dk_at dksX2_isSmall_0 21 rfl rfl)
theorem dX2_isSmall_22 : decode cX2_isSmall 22 = .ok (.iconst 5, 1) := dk_8 (dk_at dksX2_isSmall_0 22 rfl rfl)
theorem dX2_isSmall_23 : decode cX2_isSmall 23 = .ok (.iload_n 1, 1) := dk_27 (dk_at dksX2_isSmall_0 23 rfl rfl)
theorem dX2_isSmall_24 : decode cX2_isSmall 24 = .ok (.imul, 1) := dk_104 (dk_at dksX2_isSmall_1 0 rfl rfl)
theorem dX2_isSmall_25 : decode cX2_isSmall 25 = .ok (.istore_n 2, 1) := dk_61 (dk_at dksX2_isSmall_1 1 rfl rfl)
theorem dX2_isSmall_26 : decode cX2_isSmall 26 = .ok (.aload_n 0, 1) := dk_42 (dk_at dksX2_isSmall_1 2 rfl rfl)
theorem dX2_isSmall_27 : decode cX2_isSmall 27 = .ok (.getfield 94, 3) := dk_180 0 94 (dk_at dksX2_isSmall_1 3 rfl rfl)
theorem dX2_isSmall_30 : decode cX2_isSmall 30 = .ok (.iload_n 2, 1) := dk_28 (dk_at dksX2_isSmall_1 6 rfl rfl)
theorem dX2_isSmall_31 : decode cX2_isSmall 31 = .ok (.iaload, 1) := dk_46 (dk_at dksX2_isSmall_1 7 rfl rfl)
theorem dX2_isSmall_32 : decode cX2_isSmall 32 = .ok (.ifCond .ge 29, 3) := dk_156 0 29 (dk_at dksX2_isSmall_1 8 rfl rfl)
theorem dX2_isSmall_35 : decode cX2_isSmall 35 = .ok (.aload_n 0, 1) := dk_42 (dk_at dksX2_isSmall_1 11 rfl rfl)
theorem dX2_isSmall_36 : decode cX2_isSmall 36 = .ok (.getfield 94, 3) := dk_180 0 94 (dk_at dksX2_isSmall_1 12 rfl rfl)
theorem dX2_isSmall_39 : decode cX2_isSmall 39 = .ok (.iload_n 2, 1) := dk_28 (dk_at dksX2_isSmall_1 15 rfl rfl)
theorem dX2_isSmall_40 : decode cX2_isSmall 40 = .ok (.iconst 1, 1) := dk_4 (dk_at dksX2_isSmall_1 16 rfl rfl)
theorem dX2_isSmall_41 : decode cX2_isSmall 41 = .ok (.iadd, 1) := dk_96 (dk_at dksX2_isSmall_1 17 rfl rfl)
theorem dX2_isSmall_42 : decode cX2_isSmall 42 = .ok (.iaload, 1) := dk_46 (dk_at dksX2_isSmall_1 18 rfl rfl)
theorem dX2_isSmall_43 : decode cX2_isSmall 43 = .ok (.ifCond .ge 18, 3) := dk_156 0 18 (dk_at dksX2_isSmall_1 19 rfl rfl)
theorem dX2_isSmall_46 : decode cX2_isSmall 46 = .ok (.aload_n 0, 1) := dk_42 (dk_at dksX2_isSmall_1 22 rfl rfl)
theorem dX2_isSmall_47 : decode cX2_isSmall 47 = .ok (.getfield 94, 3) := dk_180 0 94 (dk_at dksX2_isSmall_2 0 rfl rfl)
theorem dX2_isSmall_50 : decode cX2_isSmall 50 = .ok (.iload_n 2, 1) := dk_28 (dk_at dksX2_isSmall_2 3 rfl rfl)
theorem dX2_isSmall_51 : decode cX2_isSmall 51 = .ok (.iconst 2, 1) := dk_5 (dk_at dksX2_isSmall_2 4 rfl rfl)
theorem dX2_isSmall_52 : decode cX2_isSmall 52 = .ok (.iadd, 1) := dk_96 (dk_at dksX2_isSmall_2 5 rfl rfl)
theorem dX2_isSmall_53 : decode cX2_isSmall 53 = .ok (.iaload, 1) := dk_46 (dk_at dksX2_isSmall_2 6 rfl rfl)
theorem dX2_isSmall_54 : decode cX2_isSmall 54 = .ok (.ifCond .ge 7, 3) := dk_156 0 7 (dk_at dksX2_isSmall_2 7 rfl rfl)
theorem dX2_isSmall_57 : decode cX2_isSmall 57 = .ok (.iconst 1, 1) := dk_4 (dk_at dksX2_isSmall_2 10 rfl rfl)
theorem dX2_isSmall_58 : decode cX2_isSmall 58 = .ok (.goto 4, 3) := dk_167 0 4 (dk_at dksX2_isSmall_2 11 rfl rfl)
theorem dX2_isSmall_61 : decode cX2_isSmall 61 = .ok (.iconst 0, 1) := dk_3 (dk_at dksX2_isSmall_2 14 rfl rfl)
theorem dX2_isSmall_62 : decode cX2_isSmall 62 = .ok (.ireturn, 1) := dk_172 (dk_at dksX2_isSmall_2 15 rfl rfl)
abbrev cX2_backHour : ByteArray := prog_23_method_47_code
def yX2_backHour : MethodName := ⟨RX2, "backHour", "(II)I"⟩
def dkwX2_backHour_2 : List UInt8 := [16, 6, 46, 4, 160, 0, 17, 29, 42, 180, 0, 78, 28, 46, 163, 0, 7, 2, 167, 0, 4, 29, 172]
abbrev dktX2_backHour_2 : List UInt8 := dkwX2_backHour_2 ++ []
def dkwX2_backHour_1 : List UInt8 := [42, 180, 0, 66, 7, 46, 182, 1, 107, 62, 42, 180, 0, 78, 28, 46, 155, 0, 28, 42, 180, 0, 66]
abbrev dktX2_backHour_1 : List UInt8 := dkwX2_backHour_1 ++ dktX2_backHour_2
def dkwX2_backHour_0 : List UInt8 := [42, 180, 0, 69, 27, 46, 8, 160, 0, 13, 42, 180, 0, 81, 27, 46, 28, 159, 0, 5, 2, 172, 42, 27]
abbrev dktX2_backHour_0 : List UInt8 := dkwX2_backHour_0 ++ dktX2_backHour_1
theorem dksX2_backHour_0 : cX2_backHour.data.toList.drop 0 = dktX2_backHour_0 := by decide +kernel
theorem dksX2_backHour_1 : cX2_backHour.data.toList.drop 24 = dktX2_backHour_1 := dk_seg dksX2_backHour_0 24 rfl rfl
theorem dksX2_backHour_2 : cX2_backHour.data.toList.drop 47 = dktX2_backHour_2 := dk_seg dksX2_backHour_1 23 rfl rfl
theorem dX2_backHour_0 : decode cX2_backHour 0 = .ok (.aload_n 0, 1) := dk_42 (dk_at dksX2_backHour_0 0 rfl rfl)
theorem dX2_backHour_1 : decode cX2_backHour 1 = .ok (.getfield 69, 3) := dk_180 0 69 (dk_at dksX2_backHour_0 1 rfl rfl)
theorem dX2_backHour_4 : decode cX2_backHour 4 = .ok (.iload_n 1, 1) := dk_27 (dk_at dksX2_backHour_0 4 rfl rfl)
theorem dX2_backHour_5 : decode cX2_backHour 5 = .ok (.iaload, 1) := dk_46 (dk_at dksX2_backHour_0 5 rfl rfl)
theorem dX2_backHour_6 : decode cX2_backHour 6 = .ok (.iconst 5, 1) := dk_8 (dk_at dksX2_backHour_0 6 rfl rfl)
theorem dX2_backHour_7 : decode cX2_backHour 7 = .ok (.if_icmp .ne 13, 3) := dk_160 0 13 (dk_at dksX2_backHour_0 7 rfl rfl)
theorem dX2_backHour_10 : decode cX2_backHour 10 = .ok (.aload_n 0, 1) := dk_42 (dk_at dksX2_backHour_0 10 rfl rfl)
theorem dX2_backHour_11 : decode cX2_backHour 11 = .ok (.getfield 81, 3) := dk_180 0 81 (dk_at dksX2_backHour_0 11 rfl rfl)
theorem dX2_backHour_14 : decode cX2_backHour 14 = .ok (.iload_n 1, 1) := dk_27 (dk_at dksX2_backHour_0 14 rfl rfl)
theorem dX2_backHour_15 : decode cX2_backHour 15 = .ok (.iaload, 1) := dk_46 (dk_at dksX2_backHour_0 15 rfl rfl)
theorem dX2_backHour_16 : decode cX2_backHour 16 = .ok (.iload_n 2, 1) := dk_28 (dk_at dksX2_backHour_0 16 rfl rfl)
theorem dX2_backHour_17 : decode cX2_backHour 17 = .ok (.if_icmp .eq 5, 3) := dk_159 0 5 (dk_at dksX2_backHour_0 17 rfl rfl)
theorem dX2_backHour_20 : decode cX2_backHour 20 = .ok (.iconst (-1), 1) := dk_2 (dk_at dksX2_backHour_0 20 rfl rfl)
theorem dX2_backHour_21 : decode cX2_backHour 21 = .ok (.ireturn, 1) := dk_172 (dk_at dksX2_backHour_0 21 rfl rfl)
theorem dX2_backHour_22 : decode cX2_backHour 22 = .ok (.aload_n 0, 1) := dk_42 (dk_at dksX2_backHour_0 22 rfl rfl)
theorem dX2_backHour_23 : decode cX2_backHour 23 = .ok (.iload_n 1, 1) := dk_27 (dk_at dksX2_backHour_0 23 rfl rfl)
theorem dX2_backHour_24 : decode cX2_backHour 24 = .ok (.aload_n 0, 1) := dk_42 (dk_at dksX2_backHour_1 0 rfl rfl)
theorem dX2_backHour_25 : decode cX2_backHour 25 = .ok (.getfield 66, 3) := dk_180 0 66 (dk_at dksX2_backHour_1 1 rfl rfl)
theorem dX2_backHour_28 : decode cX2_backHour 28 = .ok (.iconst 4, 1) := dk_7 (dk_at dksX2_backHour_1 4 rfl rfl)
theorem dX2_backHour_29 : decode cX2_backHour 29 = .ok (.iaload, 1) := dk_46 (dk_at dksX2_backHour_1 5 rfl rfl)
theorem dX2_backHour_30 : decode cX2_backHour 30 = .ok (.invokevirtual 363, 3) := dk_182 1 107 (dk_at dksX2_backHour_1 6 rfl rfl)
theorem dX2_backHour_33 : decode cX2_backHour 33 = .ok (.istore_n 3, 1) := dk_62 (dk_at dksX2_backHour_1 9 rfl rfl)
theorem dX2_backHour_34 : decode cX2_backHour 34 = .ok (.aload_n 0, 1) := dk_42 (dk_at dksX2_backHour_1 10 rfl rfl)
theorem dX2_backHour_35 : decode cX2_backHour 35 = .ok (.getfield 78, 3) := dk_180 0 78 (dk_at dksX2_backHour_1 11 rfl rfl)
theorem dX2_backHour_38 : decode cX2_backHour 38 = .ok (.iload_n 2, 1) := dk_28 (dk_at dksX2_backHour_1 14 rfl rfl)
theorem dX2_backHour_39 : decode cX2_backHour 39 = .ok (.iaload, 1) := dk_46 (dk_at dksX2_backHour_1 15 rfl rfl)
theorem dX2_backHour_40 : decode cX2_backHour 40 = .ok (.ifCond .lt 28, 3) := dk_155 0 28 (dk_at dksX2_backHour_1 16 rfl rfl)
theorem dX2_backHour_43 : decode cX2_backHour 43 = .ok (.aload_n 0, 1) := dk_42 (dk_at dksX2_backHour_1 19 rfl rfl)
theorem dX2_backHour_44 : decode cX2_backHour 44 = .ok (.getfield 66, 3) := dk_180 0 66 (dk_at dksX2_backHour_1 20 rfl rfl)
theorem dX2_backHour_47 : decode cX2_backHour 47 = .ok (.bipush 6, 2) := dk_16 6 (dk_at dksX2_backHour_2 0 rfl rfl)
theorem dX2_backHour_49 : decode cX2_backHour 49 = .ok (.iaload, 1) := dk_46 (dk_at dksX2_backHour_2 2 rfl rfl)
theorem dX2_backHour_50 : decode cX2_backHour 50 = .ok (.iconst 1, 1) := dk_4 (dk_at dksX2_backHour_2 3 rfl rfl)
theorem dX2_backHour_51 : decode cX2_backHour 51 = .ok (.if_icmp .ne 17, 3) := dk_160 0 17 (dk_at dksX2_backHour_2 4 rfl rfl)
theorem dX2_backHour_54 : decode cX2_backHour 54 = .ok (.iload_n 3, 1) := dk_29 (dk_at dksX2_backHour_2 7 rfl rfl)
theorem dX2_backHour_55 : decode cX2_backHour 55 = .ok (.aload_n 0, 1) := dk_42 (dk_at dksX2_backHour_2 8 rfl rfl)
theorem dX2_backHour_56 : decode cX2_backHour 56 = .ok (.getfield 78, 3) := dk_180 0 78 (dk_at dksX2_backHour_2 9 rfl rfl)
theorem dX2_backHour_59 : decode cX2_backHour 59 = .ok (.iload_n 2, 1) := dk_28 (dk_at dksX2_backHour_2 12 rfl rfl)
theorem dX2_backHour_60 : decode cX2_backHour 60 = .ok (.iaload, 1) := dk_46 (dk_at dksX2_backHour_2 13 rfl rfl)
theorem dX2_backHour_61 : decode cX2_backHour 61 = .ok (.if_icmp .gt 7, 3) := dk_163 0 7 (dk_at dksX2_backHour_2 14 rfl rfl)
theorem dX2_backHour_64 : decode cX2_backHour 64 = .ok (.iconst (-1), 1) := dk_2 (dk_at dksX2_backHour_2 17 rfl rfl)
theorem dX2_backHour_65 : decode cX2_backHour 65 = .ok (.goto 4, 3) := dk_167 0 4 (dk_at dksX2_backHour_2 18 rfl rfl)
theorem dX2_backHour_68 : decode cX2_backHour 68 = .ok (.iload_n 3, 1) := dk_29 (dk_at dksX2_backHour_2 21 rfl rfl)
theorem dX2_backHour_69 : decode cX2_backHour 69 = .ok (.ireturn, 1) := dk_172 (dk_at dksX2_backHour_2 22 rfl rfl)
abbrev cX2_endsBy : ByteArray := prog_23_method_49_code
def yX2_endsBy : MethodName := ⟨RX2, "endsBy", "(III)V"⟩
def dkwX2_endsBy_2 : List UInt8 := [27, 28, 79, 42, 180, 0, 127, 27, 29, 79, 177]
abbrev dktX2_endsBy_2 : List UInt8 := dkwX2_endsBy_2 ++ []
def dkwX2_endsBy_1 : List UInt8 := [42, 180, 0, 127, 27, 46, 158, 0, 14, 42, 180, 0, 127, 27, 46, 29, 163, 0, 4, 177, 42, 180, 0, 124]
abbrev dktX2_endsBy_1 : List UInt8 := dkwX2_endsBy_1 ++ dktX2_endsBy_2
def dkwX2_endsBy_0 : List UInt8 := [28, 155, 0, 42, 28, 42, 180, 0, 124, 27, 46, 163, 0, 32, 28, 42, 180, 0, 124, 27, 46, 160, 0, 23]
abbrev dktX2_endsBy_0 : List UInt8 := dkwX2_endsBy_0 ++ dktX2_endsBy_1
theorem dksX2_endsBy_0 : cX2_endsBy.data.toList.drop 0 = dktX2_endsBy_0 := by decide +kernel
theorem dksX2_endsBy_1 : cX2_endsBy.data.toList.drop 24 = dktX2_endsBy_1 := dk_seg dksX2_endsBy_0 24 rfl rfl
theorem dksX2_endsBy_2 : cX2_endsBy.data.toList.drop 48 = dktX2_endsBy_2 := dk_seg dksX2_endsBy_1 24 rfl rfl
theorem dX2_endsBy_0 : decode cX2_endsBy 0 = .ok (.iload_n 2, 1) := dk_28 (dk_at dksX2_endsBy_0 0 rfl rfl)
theorem dX2_endsBy_1 : decode cX2_endsBy 1 = .ok (.ifCond .lt 42, 3) := dk_155 0 42 (dk_at dksX2_endsBy_0 1 rfl rfl)
theorem dX2_endsBy_4 : decode cX2_endsBy 4 = .ok (.iload_n 2, 1) := dk_28 (dk_at dksX2_endsBy_0 4 rfl rfl)
theorem dX2_endsBy_5 : decode cX2_endsBy 5 = .ok (.aload_n 0, 1) := dk_42 (dk_at dksX2_endsBy_0 5 rfl rfl)
theorem dX2_endsBy_6 : decode cX2_endsBy 6 = .ok (.getfield 124, 3) := dk_180 0 124 (dk_at dksX2_endsBy_0 6 rfl rfl)
theorem dX2_endsBy_9 : decode cX2_endsBy 9 = .ok (.iload_n 1, 1) := dk_27 (dk_at dksX2_endsBy_0 9 rfl rfl)
theorem dX2_endsBy_10 : decode cX2_endsBy 10 = .ok (.iaload, 1) := dk_46 (dk_at dksX2_endsBy_0 10 rfl rfl)
theorem dX2_endsBy_11 : decode cX2_endsBy 11 = .ok (.if_icmp .gt 32, 3) := dk_163 0 32 (dk_at dksX2_endsBy_0 11 rfl rfl)
theorem dX2_endsBy_14 : decode cX2_endsBy 14 = .ok (.iload_n 2, 1) := dk_28 (dk_at dksX2_endsBy_0 14 rfl rfl)
theorem dX2_endsBy_15 : decode cX2_endsBy 15 = .ok (.aload_n 0, 1) := dk_42 (dk_at dksX2_endsBy_0 15 rfl rfl)
theorem dX2_endsBy_16 : decode cX2_endsBy 16 = .ok (.getfield 124, 3) := dk_180 0 124 (dk_at dksX2_endsBy_0 16 rfl rfl)
theorem dX2_endsBy_19 : decode cX2_endsBy 19 = .ok (.iload_n 1, 1) := dk_27 (dk_at dksX2_endsBy_0 19 rfl rfl)
theorem dX2_endsBy_20 : decode cX2_endsBy 20 = .ok (.iaload, 1) := dk_46 (dk_at dksX2_endsBy_0 20 rfl rfl)
theorem dX2_endsBy_21 : decode cX2_endsBy 21 = .ok (.if_icmp .ne 23, 3) := dk_160 0 23 (dk_at dksX2_endsBy_0 21 rfl rfl)
theorem dX2_endsBy_24 : decode cX2_endsBy 24 = .ok (.aload_n 0, 1) := dk_42 (dk_at dksX2_endsBy_1 0 rfl rfl)
theorem dX2_endsBy_25 : decode cX2_endsBy 25 = .ok (.getfield 127, 3) := dk_180 0 127 (dk_at dksX2_endsBy_1 1 rfl rfl)
theorem dX2_endsBy_28 : decode cX2_endsBy 28 = .ok (.iload_n 1, 1) := dk_27 (dk_at dksX2_endsBy_1 4 rfl rfl)
theorem dX2_endsBy_29 : decode cX2_endsBy 29 = .ok (.iaload, 1) := dk_46 (dk_at dksX2_endsBy_1 5 rfl rfl)
theorem dX2_endsBy_30 : decode cX2_endsBy 30 = .ok (.ifCond .le 14, 3) := dk_158 0 14 (dk_at dksX2_endsBy_1 6 rfl rfl)
theorem dX2_endsBy_33 : decode cX2_endsBy 33 = .ok (.aload_n 0, 1) := dk_42 (dk_at dksX2_endsBy_1 9 rfl rfl)
theorem dX2_endsBy_34 : decode cX2_endsBy 34 = .ok (.getfield 127, 3) := dk_180 0 127 (dk_at dksX2_endsBy_1 10 rfl rfl)
theorem dX2_endsBy_37 : decode cX2_endsBy 37 = .ok (.iload_n 1, 1) := dk_27 (dk_at dksX2_endsBy_1 13 rfl rfl)
theorem dX2_endsBy_38 : decode cX2_endsBy 38 = .ok (.iaload, 1) := dk_46 (dk_at dksX2_endsBy_1 14 rfl rfl)
theorem dX2_endsBy_39 : decode cX2_endsBy 39 = .ok (.iload_n 3, 1) := dk_29 (dk_at dksX2_endsBy_1 15 rfl rfl)
theorem dX2_endsBy_40 : decode cX2_endsBy 40 = .ok (.if_icmp .gt 4, 3) := dk_163 0 4 (dk_at dksX2_endsBy_1 16 rfl rfl)
theorem dX2_endsBy_43 : decode cX2_endsBy 43 = .ok (.return_, 1) := dk_177 (dk_at dksX2_endsBy_1 19 rfl rfl)
theorem dX2_endsBy_44 : decode cX2_endsBy 44 = .ok (.aload_n 0, 1) := dk_42 (dk_at dksX2_endsBy_1 20 rfl rfl)
theorem dX2_endsBy_45 : decode cX2_endsBy 45 = .ok (.getfield 124, 3) := dk_180 0 124 (dk_at dksX2_endsBy_1 21 rfl rfl)
theorem dX2_endsBy_48 : decode cX2_endsBy 48 = .ok (.iload_n 1, 1) := dk_27 (dk_at dksX2_endsBy_2 0 rfl rfl)
theorem dX2_endsBy_49 : decode cX2_endsBy 49 = .ok (.iload_n 2, 1) := dk_28 (dk_at dksX2_endsBy_2 1 rfl rfl)
theorem dX2_endsBy_50 : decode cX2_endsBy 50 = .ok (.iastore, 1) := dk_79 (dk_at dksX2_endsBy_2 2 rfl rfl)
theorem dX2_endsBy_51 : decode cX2_endsBy 51 = .ok (.aload_n 0, 1) := dk_42 (dk_at dksX2_endsBy_2 3 rfl rfl)
theorem dX2_endsBy_52 : decode cX2_endsBy 52 = .ok (.getfield 127, 3) := dk_180 0 127 (dk_at dksX2_endsBy_2 4 rfl rfl)
theorem dX2_endsBy_55 : decode cX2_endsBy 55 = .ok (.iload_n 1, 1) := dk_27 (dk_at dksX2_endsBy_2 7 rfl rfl)
theorem dX2_endsBy_56 : decode cX2_endsBy 56 = .ok (.iload_n 3, 1) := dk_29 (dk_at dksX2_endsBy_2 8 rfl rfl)
theorem dX2_endsBy_57 : decode cX2_endsBy 57 = .ok (.iastore, 1) := dk_79 (dk_at dksX2_endsBy_2 9 rfl rfl)
theorem dX2_endsBy_58 : decode cX2_endsBy 58 = .ok (.return_, 1) := dk_177 (dk_at dksX2_endsBy_2 10 rfl rfl)
abbrev cX2_noHour : ByteArray := prog_23_method_48_code
def yX2_noHour : MethodName := ⟨RX2, "noHour", "(II)I"⟩
def dkwX2_noHour_1 : List UInt8 := [8, 46, 182, 1, 107, 167, 0, 4, 2, 172]
abbrev dktX2_noHour_1 : List UInt8 := dkwX2_noHour_1 ++ []
def dkwX2_noHour_0 : List UInt8 := [42, 27, 182, 1, 110, 153, 0, 27, 42, 180, 0, 81, 27, 46, 28, 160, 0, 17, 42, 27, 42, 180, 0, 66]
abbrev dktX2_noHour_0 : List UInt8 := dkwX2_noHour_0 ++ dktX2_noHour_1
theorem dksX2_noHour_0 : cX2_noHour.data.toList.drop 0 = dktX2_noHour_0 := by decide +kernel
theorem dksX2_noHour_1 : cX2_noHour.data.toList.drop 24 = dktX2_noHour_1 := dk_seg dksX2_noHour_0 24 rfl rfl
theorem dX2_noHour_0 : decode cX2_noHour 0 = .ok (.aload_n 0, 1) := dk_42 (dk_at dksX2_noHour_0 0 rfl rfl)
theorem dX2_noHour_1 : decode cX2_noHour 1 = .ok (.iload_n 1, 1) := dk_27 (dk_at dksX2_noHour_0 1 rfl rfl)
theorem dX2_noHour_2 : decode cX2_noHour 2 = .ok (.invokevirtual 366, 3) := dk_182 1 110 (dk_at dksX2_noHour_0 2 rfl rfl)
theorem dX2_noHour_5 : decode cX2_noHour 5 = .ok (.ifCond .eq 27, 3) := dk_153 0 27 (dk_at dksX2_noHour_0 5 rfl rfl)
theorem dX2_noHour_8 : decode cX2_noHour 8 = .ok (.aload_n 0, 1) := dk_42 (dk_at dksX2_noHour_0 8 rfl rfl)
theorem dX2_noHour_9 : decode cX2_noHour 9 = .ok (.getfield 81, 3) := dk_180 0 81 (dk_at dksX2_noHour_0 9 rfl rfl)
theorem dX2_noHour_12 : decode cX2_noHour 12 = .ok (.iload_n 1, 1) := dk_27 (dk_at dksX2_noHour_0 12 rfl rfl)
theorem dX2_noHour_13 : decode cX2_noHour 13 = .ok (.iaload, 1) := dk_46 (dk_at dksX2_noHour_0 13 rfl rfl)
theorem dX2_noHour_14 : decode cX2_noHour 14 = .ok (.iload_n 2, 1) := dk_28 (dk_at dksX2_noHour_0 14 rfl rfl)
theorem dX2_noHour_15 : decode cX2_noHour 15 = .ok (.if_icmp .ne 17, 3) := dk_160 0 17 (dk_at dksX2_noHour_0 15 rfl rfl)
theorem dX2_noHour_18 : decode cX2_noHour 18 = .ok (.aload_n 0, 1) := dk_42 (dk_at dksX2_noHour_0 18 rfl rfl)
theorem dX2_noHour_19 : decode cX2_noHour 19 = .ok (.iload_n 1, 1) := dk_27 (dk_at dksX2_noHour_0 19 rfl rfl)
theorem dX2_noHour_20 : decode cX2_noHour 20 = .ok (.aload_n 0, 1) := dk_42 (dk_at dksX2_noHour_0 20 rfl rfl)
theorem dX2_noHour_21 : decode cX2_noHour 21 = .ok (.getfield 66, 3) := dk_180 0 66 (dk_at dksX2_noHour_0 21 rfl rfl)
theorem dX2_noHour_24 : decode cX2_noHour 24 = .ok (.iconst 5, 1) := dk_8 (dk_at dksX2_noHour_1 0 rfl rfl)
theorem dX2_noHour_25 : decode cX2_noHour 25 = .ok (.iaload, 1) := dk_46 (dk_at dksX2_noHour_1 1 rfl rfl)
theorem dX2_noHour_26 : decode cX2_noHour 26 = .ok (.invokevirtual 363, 3) := dk_182 1 107 (dk_at dksX2_noHour_1 2 rfl rfl)
theorem dX2_noHour_29 : decode cX2_noHour 29 = .ok (.goto 4, 3) := dk_167 0 4 (dk_at dksX2_noHour_1 5 rfl rfl)
theorem dX2_noHour_32 : decode cX2_noHour 32 = .ok (.iconst (-1), 1) := dk_2 (dk_at dksX2_noHour_1 8 rfl rfl)
theorem dX2_noHour_33 : decode cX2_noHour 33 = .ok (.ireturn, 1) := dk_172 (dk_at dksX2_noHour_1 9 rfl rfl)
abbrev cX2_isNo : ByteArray := prog_23_method_45_code
def yX2_isNo : MethodName := ⟨RX2, "isNo", "(I)Z"⟩
def dkwX2_isNo_1 : List UInt8 := [182, 1, 104, 154, 0, 7, 4, 167, 0, 4, 3, 172]
abbrev dktX2_isNo_1 : List UInt8 := dkwX2_isNo_1 ++ []
def dkwX2_isNo_0 : List UInt8 := [42, 180, 0, 69, 27, 46, 7, 159, 0, 21, 42, 180, 0, 69, 27, 46, 6, 160, 0, 15, 42, 27]
abbrev dktX2_isNo_0 : List UInt8 := dkwX2_isNo_0 ++ dktX2_isNo_1
theorem dksX2_isNo_0 : cX2_isNo.data.toList.drop 0 = dktX2_isNo_0 := by decide +kernel
theorem dksX2_isNo_1 : cX2_isNo.data.toList.drop 22 = dktX2_isNo_1 := dk_seg dksX2_isNo_0 22 rfl rfl
theorem dX2_isNo_0 : decode cX2_isNo 0 = .ok (.aload_n 0, 1) := dk_42 (dk_at dksX2_isNo_0 0 rfl rfl)
theorem dX2_isNo_1 : decode cX2_isNo 1 = .ok (.getfield 69, 3) := dk_180 0 69 (dk_at dksX2_isNo_0 1 rfl rfl)
theorem dX2_isNo_4 : decode cX2_isNo 4 = .ok (.iload_n 1, 1) := dk_27 (dk_at dksX2_isNo_0 4 rfl rfl)
theorem dX2_isNo_5 : decode cX2_isNo 5 = .ok (.iaload, 1) := dk_46 (dk_at dksX2_isNo_0 5 rfl rfl)
theorem dX2_isNo_6 : decode cX2_isNo 6 = .ok (.iconst 4, 1) := dk_7 (dk_at dksX2_isNo_0 6 rfl rfl)
theorem dX2_isNo_7 : decode cX2_isNo 7 = .ok (.if_icmp .eq 21, 3) := dk_159 0 21 (dk_at dksX2_isNo_0 7 rfl rfl)
theorem dX2_isNo_10 : decode cX2_isNo 10 = .ok (.aload_n 0, 1) := dk_42 (dk_at dksX2_isNo_0 10 rfl rfl)
theorem dX2_isNo_11 : decode cX2_isNo 11 = .ok (.getfield 69, 3) := dk_180 0 69 (dk_at dksX2_isNo_0 11 rfl rfl)
theorem dX2_isNo_14 : decode cX2_isNo 14 = .ok (.iload_n 1, 1) := dk_27 (dk_at dksX2_isNo_0 14 rfl rfl)
theorem dX2_isNo_15 : decode cX2_isNo 15 = .ok (.iaload, 1) := dk_46 (dk_at dksX2_isNo_0 15 rfl rfl)
theorem dX2_isNo_16 : decode cX2_isNo 16 = .ok (.iconst 3, 1) := dk_6 (dk_at dksX2_isNo_0 16 rfl rfl)
theorem dX2_isNo_17 : decode cX2_isNo 17 = .ok (.if_icmp .ne 15, 3) := dk_160 0 15 (dk_at dksX2_isNo_0 17 rfl rfl)
theorem dX2_isNo_20 : decode cX2_isNo 20 = .ok (.aload_n 0, 1) := dk_42 (dk_at dksX2_isNo_0 20 rfl rfl)
theorem dX2_isNo_21 : decode cX2_isNo 21 = .ok (.iload_n 1, 1) := dk_27 (dk_at dksX2_isNo_0 21 rfl rfl)
theorem dX2_isNo_22 : decode cX2_isNo 22 = .ok (.invokevirtual 360, 3) := dk_182 1 104 (dk_at dksX2_isNo_1 0 rfl rfl)
theorem dX2_isNo_25 : decode cX2_isNo 25 = .ok (.ifCond .ne 7, 3) := dk_154 0 7 (dk_at dksX2_isNo_1 3 rfl rfl)
theorem dX2_isNo_28 : decode cX2_isNo 28 = .ok (.iconst 1, 1) := dk_4 (dk_at dksX2_isNo_1 6 rfl rfl)
theorem dX2_isNo_29 : decode cX2_isNo 29 = .ok (.goto 4, 3) := dk_167 0 4 (dk_at dksX2_isNo_1 7 rfl rfl)
theorem dX2_isNo_32 : decode cX2_isNo 32 = .ok (.iconst 0, 1) := dk_3 (dk_at dksX2_isNo_1 10 rfl rfl)
theorem dX2_isNo_33 : decode cX2_isNo 33 = .ok (.ireturn, 1) := dk_172 (dk_at dksX2_isNo_1 11 rfl rfl)
abbrev cX2_findBargain : ByteArray := prog_23_method_56_code
def yX2_findBargain : MethodName := ⟨RX2, "findBargain", "()V"⟩
def dkwX2_findBargain_8 : List UInt8 := [167, 255, 185, 177]
abbrev dktX2_findBargain_8 : List UInt8 := dkwX2_findBargain_8 ++ []
def dkwX2_findBargain_7 : List UInt8 := [153, 0, 19, 42, 27, 28, 182, 1, 153, 154, 0, 10, 42, 2, 27, 28, 182, 1, 150, 132, 1, 1]
abbrev dktX2_findBargain_7 : List UInt8 := dkwX2_findBargain_7 ++ dktX2_findBargain_8
def dkwX2_findBargain_6 : List UInt8 := [167, 0, 43, 42, 180, 0, 115, 27, 46, 42, 180, 0, 66, 16, 8, 46, 96, 61, 42, 27, 28, 182, 1, 147]
abbrev dktX2_findBargain_6 : List UInt8 := dkwX2_findBargain_6 ++ dktX2_findBargain_7
def dkwX2_findBargain_5 : List UInt8 := [42, 180, 1, 95, 162, 0, 69, 42, 27, 182, 1, 113, 153, 0, 55, 42, 180, 0, 115, 27, 46, 156, 0, 6]
abbrev dktX2_findBargain_5 : List UInt8 := dkwX2_findBargain_5 ++ dktX2_findBargain_6
def dkwX2_findBargain_4 : List UInt8 := [29, 182, 1, 150, 132, 1, 1, 167, 255, 160, 42, 180, 0, 66, 16, 8, 46, 156, 0, 4, 177, 3, 60, 27]
abbrev dktX2_findBargain_4 : List UInt8 := dkwX2_findBargain_4 ++ dktX2_findBargain_5
def dkwX2_findBargain_3 : List UInt8 := [163, 0, 28, 42, 27, 29, 182, 1, 143, 154, 0, 19, 42, 28, 29, 182, 1, 147, 153, 0, 10, 42, 27, 28]
abbrev dktX2_findBargain_3 : List UInt8 := dkwX2_findBargain_3 ++ dktX2_findBargain_4
def dkwX2_findBargain_2 : List UInt8 := [155, 0, 52, 42, 180, 0, 112, 28, 46, 155, 0, 43, 42, 180, 0, 112, 28, 46, 42, 180, 0, 109, 27, 46]
abbrev dktX2_findBargain_2 : List UInt8 := dkwX2_findBargain_2 ++ dktX2_findBargain_3
def dkwX2_findBargain_1 : List UInt8 := [182, 1, 137, 153, 0, 73, 42, 28, 182, 1, 113, 154, 0, 6, 167, 0, 62, 42, 27, 182, 1, 140, 62, 29]
abbrev dktX2_findBargain_1 : List UInt8 := dkwX2_findBargain_1 ++ dktX2_findBargain_2
def dkwX2_findBargain_0 : List UInt8 := [42, 3, 181, 1, 125, 3, 60, 27, 42, 180, 1, 95, 162, 0, 94, 42, 180, 0, 81, 27, 46, 61, 42, 27]
abbrev dktX2_findBargain_0 : List UInt8 := dkwX2_findBargain_0 ++ dktX2_findBargain_1
theorem dksX2_findBargain_0 : cX2_findBargain.data.toList.drop 0 = dktX2_findBargain_0 := by decide +kernel
theorem dksX2_findBargain_1 : cX2_findBargain.data.toList.drop 24 = dktX2_findBargain_1 := dk_seg dksX2_findBargain_0 24 rfl rfl
theorem dksX2_findBargain_2 : cX2_findBargain.data.toList.drop 48 = dktX2_findBargain_2 := dk_seg dksX2_findBargain_1 24 rfl rfl
theorem dksX2_findBargain_3 : cX2_findBargain.data.toList.drop 72 = dktX2_findBargain_3 := dk_seg dksX2_findBargain_2 24 rfl rfl
theorem dksX2_findBargain_4 : cX2_findBargain.data.toList.drop 96 = dktX2_findBargain_4 := dk_seg dksX2_findBargain_3 24 rfl rfl
theorem dksX2_findBargain_5 : cX2_findBargain.data.toList.drop 120 = dktX2_findBargain_5 := dk_seg dksX2_findBargain_4 24 rfl rfl
theorem dksX2_findBargain_6 : cX2_findBargain.data.toList.drop 144 = dktX2_findBargain_6 := dk_seg dksX2_findBargain_5 24 rfl rfl
theorem dksX2_findBargain_7 : cX2_findBargain.data.toList.drop 168 = dktX2_findBargain_7 := dk_seg dksX2_findBargain_6 24 rfl rfl
theorem dksX2_findBargain_8 : cX2_findBargain.data.toList.drop 190 = dktX2_findBargain_8 := dk_seg dksX2_findBargain_7 22 rfl rfl
theorem dX2_findBargain_0 : decode cX2_findBargain 0 = .ok (.aload_n 0, 1) := dk_42 (dk_at dksX2_findBargain_0 0 rfl rfl)
theorem dX2_findBargain_1 : decode cX2_findBargain 1 = .ok (.iconst 0, 1) := dk_3 (dk_at dksX2_findBargain_0 1 rfl rfl)
theorem dX2_findBargain_2 : decode cX2_findBargain 2 = .ok (.putfield 381, 3) := dk_181 1 125 (dk_at dksX2_findBargain_0 2 rfl rfl)
theorem dX2_findBargain_5 : decode cX2_findBargain 5 = .ok (.iconst 0, 1) := dk_3 (dk_at dksX2_findBargain_0 5 rfl rfl)
theorem dX2_findBargain_6 : decode cX2_findBargain 6 = .ok (.istore_n 1, 1) := dk_60 (dk_at dksX2_findBargain_0 6 rfl rfl)
theorem dX2_findBargain_7 : decode cX2_findBargain 7 = .ok (.iload_n 1, 1) := dk_27 (dk_at dksX2_findBargain_0 7 rfl rfl)
theorem dX2_findBargain_8 : decode cX2_findBargain 8 = .ok (.aload_n 0, 1) := dk_42 (dk_at dksX2_findBargain_0 8 rfl rfl)
theorem dX2_findBargain_9 : decode cX2_findBargain 9 = .ok (.getfield 351, 3) := dk_180 1 95 (dk_at dksX2_findBargain_0 9 rfl rfl)
theorem dX2_findBargain_12 : decode cX2_findBargain 12 = .ok (.if_icmp .ge 94, 3) := dk_162 0 94 (dk_at dksX2_findBargain_0 12 rfl rfl)
theorem dX2_findBargain_15 : decode cX2_findBargain 15 = .ok (.aload_n 0, 1) := dk_42 (dk_at dksX2_findBargain_0 15 rfl rfl)
theorem dX2_findBargain_16 : decode cX2_findBargain 16 = .ok (.getfield 81, 3) := dk_180 0 81 (dk_at dksX2_findBargain_0 16 rfl rfl)
theorem dX2_findBargain_19 : decode cX2_findBargain 19 = .ok (.iload_n 1, 1) := dk_27 (dk_at dksX2_findBargain_0 19 rfl rfl)
theorem dX2_findBargain_20 : decode cX2_findBargain 20 = .ok (.iaload, 1) := dk_46 (dk_at dksX2_findBargain_0 20 rfl rfl)
theorem dX2_findBargain_21 : decode cX2_findBargain 21 = .ok (.istore_n 2, 1) := dk_61 (dk_at dksX2_findBargain_0 21 rfl rfl)
theorem dX2_findBargain_22 : decode cX2_findBargain 22 = .ok (.aload_n 0, 1) := dk_42 (dk_at dksX2_findBargain_0 22 rfl rfl)
theorem dX2_findBargain_23 : decode cX2_findBargain 23 = .ok (.iload_n 1, 1) := dk_27 (dk_at dksX2_findBargain_0 23 rfl rfl)
theorem dX2_findBargain_24 : decode cX2_findBargain 24 = .ok (.invokevirtual 393, 3) := dk_182 1 137 (dk_at dksX2_findBargain_1 0 rfl rfl)
theorem dX2_findBargain_27 : decode cX2_findBargain 27 = .ok (.ifCond .eq 73, 3) := dk_153 0 73 (dk_at dksX2_findBargain_1 3 rfl rfl)
theorem dX2_findBargain_30 : decode cX2_findBargain 30 = .ok (.aload_n 0, 1) := dk_42 (dk_at dksX2_findBargain_1 6 rfl rfl)
theorem dX2_findBargain_31 : decode cX2_findBargain 31 = .ok (.iload_n 2, 1) := dk_28 (dk_at dksX2_findBargain_1 7 rfl rfl)
theorem dX2_findBargain_32 : decode cX2_findBargain 32 = .ok (.invokevirtual 369, 3) := dk_182 1 113 (dk_at dksX2_findBargain_1 8 rfl rfl)
theorem dX2_findBargain_35 : decode cX2_findBargain 35 = .ok (.ifCond .ne 6, 3) := dk_154 0 6 (dk_at dksX2_findBargain_1 11 rfl rfl)
theorem dX2_findBargain_38 : decode cX2_findBargain 38 = .ok (.goto 62, 3) := dk_167 0 62 (dk_at dksX2_findBargain_1 14 rfl rfl)
theorem dX2_findBargain_41 : decode cX2_findBargain 41 = .ok (.aload_n 0, 1) := dk_42 (dk_at dksX2_findBargain_1 17 rfl rfl)
theorem dX2_findBargain_42 : decode cX2_findBargain 42 = .ok (.iload_n 1, 1) := dk_27 (dk_at dksX2_findBargain_1 18 rfl rfl)
theorem dX2_findBargain_43 : decode cX2_findBargain 43 = .ok (.invokevirtual 396, 3) := dk_182 1 140 (dk_at dksX2_findBargain_1 19 rfl rfl)
theorem dX2_findBargain_46 : decode cX2_findBargain 46 = .ok (.istore_n 3, 1) := dk_62 (dk_at dksX2_findBargain_1 22 rfl rfl)
theorem dX2_findBargain_47 : decode cX2_findBargain 47 = .ok (.iload_n 3, 1) := dk_29 (dk_at dksX2_findBargain_1 23 rfl rfl)
theorem dX2_findBargain_48 : decode cX2_findBargain 48 = .ok (.ifCond .lt 52, 3) := dk_155 0 52 (dk_at dksX2_findBargain_2 0 rfl rfl)
theorem dX2_findBargain_51 : decode cX2_findBargain 51 = .ok (.aload_n 0, 1) := dk_42 (dk_at dksX2_findBargain_2 3 rfl rfl)
theorem dX2_findBargain_52 : decode cX2_findBargain 52 = .ok (.getfield 112, 3) := dk_180 0 112 (dk_at dksX2_findBargain_2 4 rfl rfl)
theorem dX2_findBargain_55 : decode cX2_findBargain 55 = .ok (.iload_n 2, 1) := dk_28 (dk_at dksX2_findBargain_2 7 rfl rfl)
theorem dX2_findBargain_56 : decode cX2_findBargain 56 = .ok (.iaload, 1) := dk_46 (dk_at dksX2_findBargain_2 8 rfl rfl)
theorem dX2_findBargain_57 : decode cX2_findBargain 57 = .ok (.ifCond .lt 43, 3) := dk_155 0 43 (dk_at dksX2_findBargain_2 9 rfl rfl)
theorem dX2_findBargain_60 : decode cX2_findBargain 60 = .ok (.aload_n 0, 1) := dk_42 (dk_at dksX2_findBargain_2 12 rfl rfl)
theorem dX2_findBargain_61 : decode cX2_findBargain 61 = .ok (.getfield 112, 3) := dk_180 0 112 (dk_at dksX2_findBargain_2 13 rfl rfl)
theorem dX2_findBargain_64 : decode cX2_findBargain 64 = .ok (.iload_n 2, 1) := dk_28 (dk_at dksX2_findBargain_2 16 rfl rfl)
theorem dX2_findBargain_65 : decode cX2_findBargain 65 = .ok (.iaload, 1) := dk_46 (dk_at dksX2_findBargain_2 17 rfl rfl)
theorem dX2_findBargain_66 : decode cX2_findBargain 66 = .ok (.aload_n 0, 1) := dk_42 (dk_at dksX2_findBargain_2 18 rfl rfl)
theorem dX2_findBargain_67 : decode cX2_findBargain 67 = .ok (.getfield 109, 3) := dk_180 0 109 (dk_at dksX2_findBargain_2 19 rfl rfl)
theorem dX2_findBargain_70 : decode cX2_findBargain 70 = .ok (.iload_n 1, 1) := dk_27 (dk_at dksX2_findBargain_2 22 rfl rfl)
theorem dX2_findBargain_71 : decode cX2_findBargain 71 = .ok (.iaload, 1) := dk_46 (dk_at dksX2_findBargain_2 23 rfl rfl)
theorem dX2_findBargain_72 : decode cX2_findBargain 72 = .ok (.if_icmp .gt 28, 3) := dk_163 0 28 (dk_at dksX2_findBargain_3 0 rfl rfl)
theorem dX2_findBargain_75 : decode cX2_findBargain 75 = .ok (.aload_n 0, 1) := dk_42 (dk_at dksX2_findBargain_3 3 rfl rfl)
theorem dX2_findBargain_76 : decode cX2_findBargain 76 = .ok (.iload_n 1, 1) := dk_27 (dk_at dksX2_findBargain_3 4 rfl rfl)
theorem dX2_findBargain_77 : decode cX2_findBargain 77 = .ok (.iload_n 3, 1) := dk_29 (dk_at dksX2_findBargain_3 5 rfl rfl)
theorem dX2_findBargain_78 : decode cX2_findBargain 78 = .ok (.invokevirtual 399, 3) := dk_182 1 143 (dk_at dksX2_findBargain_3 6 rfl rfl)
theorem dX2_findBargain_81 : decode cX2_findBargain 81 = .ok (.ifCond .ne 19, 3) := dk_154 0 19 (dk_at dksX2_findBargain_3 9 rfl rfl)
theorem dX2_findBargain_84 : decode cX2_findBargain 84 = .ok (.aload_n 0, 1) := dk_42 (dk_at dksX2_findBargain_3 12 rfl rfl)
theorem dX2_findBargain_85 : decode cX2_findBargain 85 = .ok (.iload_n 2, 1) := dk_28 (dk_at dksX2_findBargain_3 13 rfl rfl)
theorem dX2_findBargain_86 : decode cX2_findBargain 86 = .ok (.iload_n 3, 1) := dk_29 (dk_at dksX2_findBargain_3 14 rfl rfl)
theorem dX2_findBargain_87 : decode cX2_findBargain 87 = .ok (.invokevirtual 403, 3) := dk_182 1 147 (dk_at dksX2_findBargain_3 15 rfl rfl)
theorem dX2_findBargain_90 : decode cX2_findBargain 90 = .ok (.ifCond .eq 10, 3) := dk_153 0 10 (dk_at dksX2_findBargain_3 18 rfl rfl)
theorem dX2_findBargain_93 : decode cX2_findBargain 93 = .ok (.aload_n 0, 1) := dk_42 (dk_at dksX2_findBargain_3 21 rfl rfl)
theorem dX2_findBargain_94 : decode cX2_findBargain 94 = .ok (.iload_n 1, 1) := dk_27 (dk_at dksX2_findBargain_3 22 rfl rfl)
theorem dX2_findBargain_95 : decode cX2_findBargain 95 = .ok (.iload_n 2, 1) := dk_28 (dk_at dksX2_findBargain_3 23 rfl rfl)
theorem dX2_findBargain_96 : decode cX2_findBargain 96 = .ok (.iload_n 3, 1) := dk_29 (dk_at dksX2_findBargain_4 0 rfl rfl)
theorem dX2_findBargain_97 : decode cX2_findBargain 97 = .ok (.invokevirtual 406, 3) := dk_182 1 150 (dk_at dksX2_findBargain_4 1 rfl rfl)
theorem dX2_findBargain_100 : decode cX2_findBargain 100 = .ok (.iinc 1 1, 3) := dk_132 1 1 (dk_at dksX2_findBargain_4 4 rfl rfl)
theorem dX2_findBargain_103 : decode cX2_findBargain 103 = .ok (.goto (-96), 3) := dk_167 255 160 (dk_at dksX2_findBargain_4 7 rfl rfl)
theorem dX2_findBargain_106 : decode cX2_findBargain 106 = .ok (.aload_n 0, 1) := dk_42 (dk_at dksX2_findBargain_4 10 rfl rfl)
theorem dX2_findBargain_107 : decode cX2_findBargain 107 = .ok (.getfield 66, 3) := dk_180 0 66 (dk_at dksX2_findBargain_4 11 rfl rfl)
theorem dX2_findBargain_110 : decode cX2_findBargain 110 = .ok (.bipush 8, 2) := dk_16 8 (dk_at dksX2_findBargain_4 14 rfl rfl)
theorem dX2_findBargain_112 : decode cX2_findBargain 112 = .ok (.iaload, 1) := dk_46 (dk_at dksX2_findBargain_4 16 rfl rfl)
theorem dX2_findBargain_113 : decode cX2_findBargain 113 = .ok (.ifCond .ge 4, 3) := dk_156 0 4 (dk_at dksX2_findBargain_4 17 rfl rfl)
theorem dX2_findBargain_116 : decode cX2_findBargain 116 = .ok (.return_, 1) := dk_177 (dk_at dksX2_findBargain_4 20 rfl rfl)
theorem dX2_findBargain_117 : decode cX2_findBargain 117 = .ok (.iconst 0, 1) := dk_3 (dk_at dksX2_findBargain_4 21 rfl rfl)
theorem dX2_findBargain_118 : decode cX2_findBargain 118 = .ok (.istore_n 1, 1) := dk_60 (dk_at dksX2_findBargain_4 22 rfl rfl)
theorem dX2_findBargain_119 : decode cX2_findBargain 119 = .ok (.iload_n 1, 1) := dk_27 (dk_at dksX2_findBargain_4 23 rfl rfl)
theorem dX2_findBargain_120 : decode cX2_findBargain 120 = .ok (.aload_n 0, 1) := dk_42 (dk_at dksX2_findBargain_5 0 rfl rfl)
theorem dX2_findBargain_121 : decode cX2_findBargain 121 = .ok (.getfield 351, 3) := dk_180 1 95 (dk_at dksX2_findBargain_5 1 rfl rfl)
theorem dX2_findBargain_124 : decode cX2_findBargain 124 = .ok (.if_icmp .ge 69, 3) := dk_162 0 69 (dk_at dksX2_findBargain_5 4 rfl rfl)
theorem dX2_findBargain_127 : decode cX2_findBargain 127 = .ok (.aload_n 0, 1) := dk_42 (dk_at dksX2_findBargain_5 7 rfl rfl)
theorem dX2_findBargain_128 : decode cX2_findBargain 128 = .ok (.iload_n 1, 1) := dk_27 (dk_at dksX2_findBargain_5 8 rfl rfl)
theorem dX2_findBargain_129 : decode cX2_findBargain 129 = .ok (.invokevirtual 369, 3) := dk_182 1 113 (dk_at dksX2_findBargain_5 9 rfl rfl)
theorem dX2_findBargain_132 : decode cX2_findBargain 132 = .ok (.ifCond .eq 55, 3) := dk_153 0 55 (dk_at dksX2_findBargain_5 12 rfl rfl)
theorem dX2_findBargain_135 : decode cX2_findBargain 135 = .ok (.aload_n 0, 1) := dk_42 (dk_at dksX2_findBargain_5 15 rfl rfl)
theorem dX2_findBargain_136 : decode cX2_findBargain 136 = .ok (.getfield 115, 3) := dk_180 0 115 (dk_at dksX2_findBargain_5 16 rfl rfl)
theorem dX2_findBargain_139 : decode cX2_findBargain 139 = .ok (.iload_n 1, 1) := dk_27 (dk_at dksX2_findBargain_5 19 rfl rfl)
theorem dX2_findBargain_140 : decode cX2_findBargain 140 = .ok (.iaload, 1) := dk_46 (dk_at dksX2_findBargain_5 20 rfl rfl)
theorem dX2_findBargain_141 : decode cX2_findBargain 141 = .ok (.ifCond .ge 6, 3) := dk_156 0 6 (dk_at dksX2_findBargain_5 21 rfl rfl)
theorem dX2_findBargain_144 : decode cX2_findBargain 144 = .ok (.goto 43, 3) := dk_167 0 43 (dk_at dksX2_findBargain_6 0 rfl rfl)
theorem dX2_findBargain_147 : decode cX2_findBargain 147 = .ok (.aload_n 0, 1) := dk_42 (dk_at dksX2_findBargain_6 3 rfl rfl)
theorem dX2_findBargain_148 : decode cX2_findBargain 148 = .ok (.getfield 115, 3) := dk_180 0 115 (dk_at dksX2_findBargain_6 4 rfl rfl)
theorem dX2_findBargain_151 : decode cX2_findBargain 151 = .ok (.iload_n 1, 1) := dk_27 (dk_at dksX2_findBargain_6 7 rfl rfl)
theorem dX2_findBargain_152 : decode cX2_findBargain 152 = .ok (.iaload, 1) := dk_46 (dk_at dksX2_findBargain_6 8 rfl rfl)
theorem dX2_findBargain_153 : decode cX2_findBargain 153 = .ok (.aload_n 0, 1) := dk_42 (dk_at dksX2_findBargain_6 9 rfl rfl)
theorem dX2_findBargain_154 : decode cX2_findBargain 154 = .ok (.getfield 66, 3) := dk_180 0 66 (dk_at dksX2_findBargain_6 10 rfl rfl)
theorem dX2_findBargain_157 : decode cX2_findBargain 157 = .ok (.bipush 8, 2) := dk_16 8 (dk_at dksX2_findBargain_6 13 rfl rfl)
theorem dX2_findBargain_159 : decode cX2_findBargain 159 = .ok (.iaload, 1) := dk_46 (dk_at dksX2_findBargain_6 15 rfl rfl)
theorem dX2_findBargain_160 : decode cX2_findBargain 160 = .ok (.iadd, 1) := dk_96 (dk_at dksX2_findBargain_6 16 rfl rfl)
theorem dX2_findBargain_161 : decode cX2_findBargain 161 = .ok (.istore_n 2, 1) := dk_61 (dk_at dksX2_findBargain_6 17 rfl rfl)
theorem dX2_findBargain_162 : decode cX2_findBargain 162 = .ok (.aload_n 0, 1) := dk_42 (dk_at dksX2_findBargain_6 18 rfl rfl)
theorem dX2_findBargain_163 : decode cX2_findBargain 163 = .ok (.iload_n 1, 1) := dk_27 (dk_at dksX2_findBargain_6 19 rfl rfl)
theorem dX2_findBargain_164 : decode cX2_findBargain 164 = .ok (.iload_n 2, 1) := dk_28 (dk_at dksX2_findBargain_6 20 rfl rfl)
theorem dX2_findBargain_165 : decode cX2_findBargain 165 = .ok (.invokevirtual 403, 3) := dk_182 1 147 (dk_at dksX2_findBargain_6 21 rfl rfl)
theorem dX2_findBargain_168 : decode cX2_findBargain 168 = .ok (.ifCond .eq 19, 3) := dk_153 0 19 (dk_at dksX2_findBargain_7 0 rfl rfl)
theorem dX2_findBargain_171 : decode cX2_findBargain 171 = .ok (.aload_n 0, 1) := dk_42 (dk_at dksX2_findBargain_7 3 rfl rfl)
theorem dX2_findBargain_172 : decode cX2_findBargain 172 = .ok (.iload_n 1, 1) := dk_27 (dk_at dksX2_findBargain_7 4 rfl rfl)
theorem dX2_findBargain_173 : decode cX2_findBargain 173 = .ok (.iload_n 2, 1) := dk_28 (dk_at dksX2_findBargain_7 5 rfl rfl)
theorem dX2_findBargain_174 : decode cX2_findBargain 174 = .ok (.invokevirtual 409, 3) := dk_182 1 153 (dk_at dksX2_findBargain_7 6 rfl rfl)
theorem dX2_findBargain_177 : decode cX2_findBargain 177 = .ok (.ifCond .ne 10, 3) := dk_154 0 10 (dk_at dksX2_findBargain_7 9 rfl rfl)
theorem dX2_findBargain_180 : decode cX2_findBargain 180 = .ok (.aload_n 0, 1) := dk_42 (dk_at dksX2_findBargain_7 12 rfl rfl)
theorem dX2_findBargain_181 : decode cX2_findBargain 181 = .ok (.iconst (-1), 1) := dk_2 (dk_at dksX2_findBargain_7 13 rfl rfl)
theorem dX2_findBargain_182 : decode cX2_findBargain 182 = .ok (.iload_n 1, 1) := dk_27 (dk_at dksX2_findBargain_7 14 rfl rfl)
theorem dX2_findBargain_183 : decode cX2_findBargain 183 = .ok (.iload_n 2, 1) := dk_28 (dk_at dksX2_findBargain_7 15 rfl rfl)
theorem dX2_findBargain_184 : decode cX2_findBargain 184 = .ok (.invokevirtual 406, 3) := dk_182 1 150 (dk_at dksX2_findBargain_7 16 rfl rfl)
theorem dX2_findBargain_187 : decode cX2_findBargain 187 = .ok (.iinc 1 1, 3) := dk_132 1 1 (dk_at dksX2_findBargain_7 19 rfl rfl)
theorem dX2_findBargain_190 : decode cX2_findBargain 190 = .ok (.goto (-71), 3) := dk_167 255 185 (dk_at dksX2_findBargain_8 0 rfl rfl)
theorem dX2_findBargain_193 : decode cX2_findBargain 193 = .ok (.return_, 1) := dk_177 (dk_at dksX2_findBargain_8 3 rfl rfl)
abbrev cX2_isYes : ByteArray := prog_23_method_46_code
def yX2_isYes : MethodName := ⟨RX2, "isYes", "(I)Z"⟩
def dkwX2_isYes_1 : List UInt8 := [16, 6, 160, 0, 18, 42, 180, 0, 66, 16, 11, 46, 4, 160, 0, 7, 4, 167, 0, 4, 3, 172]
abbrev dktX2_isYes_1 : List UInt8 := dkwX2_isYes_1 ++ []
def dkwX2_isYes_0 : List UInt8 := [42, 180, 0, 69, 27, 46, 5, 159, 0, 33, 42, 27, 182, 1, 104, 154, 0, 25, 42, 180, 0, 69, 27, 46]
abbrev dktX2_isYes_0 : List UInt8 := dkwX2_isYes_0 ++ dktX2_isYes_1
theorem dksX2_isYes_0 : cX2_isYes.data.toList.drop 0 = dktX2_isYes_0 := by decide +kernel
theorem dksX2_isYes_1 : cX2_isYes.data.toList.drop 24 = dktX2_isYes_1 := dk_seg dksX2_isYes_0 24 rfl rfl
theorem dX2_isYes_0 : decode cX2_isYes 0 = .ok (.aload_n 0, 1) := dk_42 (dk_at dksX2_isYes_0 0 rfl rfl)
theorem dX2_isYes_1 : decode cX2_isYes 1 = .ok (.getfield 69, 3) := dk_180 0 69 (dk_at dksX2_isYes_0 1 rfl rfl)
theorem dX2_isYes_4 : decode cX2_isYes 4 = .ok (.iload_n 1, 1) := dk_27 (dk_at dksX2_isYes_0 4 rfl rfl)
theorem dX2_isYes_5 : decode cX2_isYes 5 = .ok (.iaload, 1) := dk_46 (dk_at dksX2_isYes_0 5 rfl rfl)
theorem dX2_isYes_6 : decode cX2_isYes 6 = .ok (.iconst 2, 1) := dk_5 (dk_at dksX2_isYes_0 6 rfl rfl)
theorem dX2_isYes_7 : decode cX2_isYes 7 = .ok (.if_icmp .eq 33, 3) := dk_159 0 33 (dk_at dksX2_isYes_0 7 rfl rfl)
theorem dX2_isYes_10 : decode cX2_isYes 10 = .ok (.aload_n 0, 1) := dk_42 (dk_at dksX2_isYes_0 10 rfl rfl)
theorem dX2_isYes_11 : decode cX2_isYes 11 = .ok (.iload_n 1, 1) := dk_27 (dk_at dksX2_isYes_0 11 rfl rfl)
theorem dX2_isYes_12 : decode cX2_isYes 12 = .ok (.invokevirtual 360, 3) := dk_182 1 104 (dk_at dksX2_isYes_0 12 rfl rfl)
theorem dX2_isYes_15 : decode cX2_isYes 15 = .ok (.ifCond .ne 25, 3) := dk_154 0 25 (dk_at dksX2_isYes_0 15 rfl rfl)
theorem dX2_isYes_18 : decode cX2_isYes 18 = .ok (.aload_n 0, 1) := dk_42 (dk_at dksX2_isYes_0 18 rfl rfl)
theorem dX2_isYes_19 : decode cX2_isYes 19 = .ok (.getfield 69, 3) := dk_180 0 69 (dk_at dksX2_isYes_0 19 rfl rfl)
theorem dX2_isYes_22 : decode cX2_isYes 22 = .ok (.iload_n 1, 1) := dk_27 (dk_at dksX2_isYes_0 22 rfl rfl)
theorem dX2_isYes_23 : decode cX2_isYes 23 = .ok (.iaload, 1) := dk_46 (dk_at dksX2_isYes_0 23 rfl rfl)
theorem dX2_isYes_24 : decode cX2_isYes 24 = .ok (.bipush 6, 2) := dk_16 6 (dk_at dksX2_isYes_1 0 rfl rfl)
theorem dX2_isYes_26 : decode cX2_isYes 26 = .ok (.if_icmp .ne 18, 3) := dk_160 0 18 (dk_at dksX2_isYes_1 2 rfl rfl)
theorem dX2_isYes_29 : decode cX2_isYes 29 = .ok (.aload_n 0, 1) := dk_42 (dk_at dksX2_isYes_1 5 rfl rfl)
theorem dX2_isYes_30 : decode cX2_isYes 30 = .ok (.getfield 66, 3) := dk_180 0 66 (dk_at dksX2_isYes_1 6 rfl rfl)
theorem dX2_isYes_33 : decode cX2_isYes 33 = .ok (.bipush 11, 2) := dk_16 11 (dk_at dksX2_isYes_1 9 rfl rfl)
theorem dX2_isYes_35 : decode cX2_isYes 35 = .ok (.iaload, 1) := dk_46 (dk_at dksX2_isYes_1 11 rfl rfl)
theorem dX2_isYes_36 : decode cX2_isYes 36 = .ok (.iconst 1, 1) := dk_4 (dk_at dksX2_isYes_1 12 rfl rfl)
theorem dX2_isYes_37 : decode cX2_isYes 37 = .ok (.if_icmp .ne 7, 3) := dk_160 0 7 (dk_at dksX2_isYes_1 13 rfl rfl)
theorem dX2_isYes_40 : decode cX2_isYes 40 = .ok (.iconst 1, 1) := dk_4 (dk_at dksX2_isYes_1 16 rfl rfl)
theorem dX2_isYes_41 : decode cX2_isYes 41 = .ok (.goto 4, 3) := dk_167 0 4 (dk_at dksX2_isYes_1 17 rfl rfl)
theorem dX2_isYes_44 : decode cX2_isYes 44 = .ok (.iconst 0, 1) := dk_3 (dk_at dksX2_isYes_1 20 rfl rfl)
theorem dX2_isYes_45 : decode cX2_isYes 45 = .ok (.ireturn, 1) := dk_172 (dk_at dksX2_isYes_1 21 rfl rfl)
abbrev cX2_yesHour : ByteArray := prog_23_method_52_code
def yX2_yesHour : MethodName := ⟨RX2, "yesHour", "(I)I"⟩
def dkwX2_yesHour_2 : List UInt8 := [182, 1, 107, 172]
abbrev dktX2_yesHour_2 : List UInt8 := dkwX2_yesHour_2 ++ []
def dkwX2_yesHour_1 : List UInt8 := [180, 0, 66, 42, 180, 0, 72, 27, 46, 5, 164, 0, 7, 5, 167, 0, 9, 42, 180, 0, 72, 27, 46, 46]
abbrev dktX2_yesHour_1 : List UInt8 := dkwX2_yesHour_1 ++ dktX2_yesHour_2
def dkwX2_yesHour_0 : List UInt8 := [42, 180, 0, 69, 27, 46, 16, 6, 160, 0, 12, 42, 180, 0, 109, 27, 46, 167, 0, 33, 42, 27, 42]
abbrev dktX2_yesHour_0 : List UInt8 := dkwX2_yesHour_0 ++ dktX2_yesHour_1
theorem dksX2_yesHour_0 : cX2_yesHour.data.toList.drop 0 = dktX2_yesHour_0 := by decide +kernel
theorem dksX2_yesHour_1 : cX2_yesHour.data.toList.drop 23 = dktX2_yesHour_1 := dk_seg dksX2_yesHour_0 23 rfl rfl
theorem dksX2_yesHour_2 : cX2_yesHour.data.toList.drop 47 = dktX2_yesHour_2 := dk_seg dksX2_yesHour_1 24 rfl rfl
theorem dX2_yesHour_0 : decode cX2_yesHour 0 = .ok (.aload_n 0, 1) := dk_42 (dk_at dksX2_yesHour_0 0 rfl rfl)
theorem dX2_yesHour_1 : decode cX2_yesHour 1 = .ok (.getfield 69, 3) := dk_180 0 69 (dk_at dksX2_yesHour_0 1 rfl rfl)
theorem dX2_yesHour_4 : decode cX2_yesHour 4 = .ok (.iload_n 1, 1) := dk_27 (dk_at dksX2_yesHour_0 4 rfl rfl)
theorem dX2_yesHour_5 : decode cX2_yesHour 5 = .ok (.iaload, 1) := dk_46 (dk_at dksX2_yesHour_0 5 rfl rfl)
theorem dX2_yesHour_6 : decode cX2_yesHour 6 = .ok (.bipush 6, 2) := dk_16 6 (dk_at dksX2_yesHour_0 6 rfl rfl)
theorem dX2_yesHour_8 : decode cX2_yesHour 8 = .ok (.if_icmp .ne 12, 3) := dk_160 0 12 (dk_at dksX2_yesHour_0 8 rfl rfl)
theorem dX2_yesHour_11 : decode cX2_yesHour 11 = .ok (.aload_n 0, 1) := dk_42 (dk_at dksX2_yesHour_0 11 rfl rfl)
theorem dX2_yesHour_12 : decode cX2_yesHour 12 = .ok (.getfield 109, 3) := dk_180 0 109 (dk_at dksX2_yesHour_0 12 rfl rfl)
theorem dX2_yesHour_15 : decode cX2_yesHour 15 = .ok (.iload_n 1, 1) := dk_27 (dk_at dksX2_yesHour_0 15 rfl rfl)
theorem dX2_yesHour_16 : decode cX2_yesHour 16 = .ok (.iaload, 1) := dk_46 (dk_at dksX2_yesHour_0 16 rfl rfl)
theorem dX2_yesHour_17 : decode cX2_yesHour 17 = .ok (.goto 33, 3) := dk_167 0 33 (dk_at dksX2_yesHour_0 17 rfl rfl)
theorem dX2_yesHour_20 : decode cX2_yesHour 20 = .ok (.aload_n 0, 1) := dk_42 (dk_at dksX2_yesHour_0 20 rfl rfl)
theorem dX2_yesHour_21 : decode cX2_yesHour 21 = .ok (.iload_n 1, 1) := dk_27 (dk_at dksX2_yesHour_0 21 rfl rfl)
theorem dX2_yesHour_22 : decode cX2_yesHour 22 = .ok (.aload_n 0, 1) := dk_42 (dk_at dksX2_yesHour_0 22 rfl rfl)
theorem dX2_yesHour_23 : decode cX2_yesHour 23 = .ok (.getfield 66, 3) := dk_180 0 66 (dk_at dksX2_yesHour_1 0 rfl rfl)
theorem dX2_yesHour_26 : decode cX2_yesHour 26 = .ok (.aload_n 0, 1) := dk_42 (dk_at dksX2_yesHour_1 3 rfl rfl)
theorem dX2_yesHour_27 : decode cX2_yesHour 27 = .ok (.getfield 72, 3) := dk_180 0 72 (dk_at dksX2_yesHour_1 4 rfl rfl)
theorem dX2_yesHour_30 : decode cX2_yesHour 30 = .ok (.iload_n 1, 1) := dk_27 (dk_at dksX2_yesHour_1 7 rfl rfl)
theorem dX2_yesHour_31 : decode cX2_yesHour 31 = .ok (.iaload, 1) := dk_46 (dk_at dksX2_yesHour_1 8 rfl rfl)
theorem dX2_yesHour_32 : decode cX2_yesHour 32 = .ok (.iconst 2, 1) := dk_5 (dk_at dksX2_yesHour_1 9 rfl rfl)
theorem dX2_yesHour_33 : decode cX2_yesHour 33 = .ok (.if_icmp .le 7, 3) := dk_164 0 7 (dk_at dksX2_yesHour_1 10 rfl rfl)
theorem dX2_yesHour_36 : decode cX2_yesHour 36 = .ok (.iconst 2, 1) := dk_5 (dk_at dksX2_yesHour_1 13 rfl rfl)
theorem dX2_yesHour_37 : decode cX2_yesHour 37 = .ok (.goto 9, 3) := dk_167 0 9 (dk_at dksX2_yesHour_1 14 rfl rfl)
theorem dX2_yesHour_40 : decode cX2_yesHour 40 = .ok (.aload_n 0, 1) := dk_42 (dk_at dksX2_yesHour_1 17 rfl rfl)
theorem dX2_yesHour_41 : decode cX2_yesHour 41 = .ok (.getfield 72, 3) := dk_180 0 72 (dk_at dksX2_yesHour_1 18 rfl rfl)
theorem dX2_yesHour_44 : decode cX2_yesHour 44 = .ok (.iload_n 1, 1) := dk_27 (dk_at dksX2_yesHour_1 21 rfl rfl)
theorem dX2_yesHour_45 : decode cX2_yesHour 45 = .ok (.iaload, 1) := dk_46 (dk_at dksX2_yesHour_1 22 rfl rfl)
theorem dX2_yesHour_46 : decode cX2_yesHour 46 = .ok (.iaload, 1) := dk_46 (dk_at dksX2_yesHour_1 23 rfl rfl)
theorem dX2_yesHour_47 : decode cX2_yesHour 47 = .ok (.invokevirtual 363, 3) := dk_182 1 107 (dk_at dksX2_yesHour_2 0 rfl rfl)
theorem dX2_yesHour_50 : decode cX2_yesHour 50 = .ok (.ireturn, 1) := dk_172 (dk_at dksX2_yesHour_2 3 rfl rfl)
abbrev cX2_isTakenBack : ByteArray := prog_23_method_53_code
def yX2_isTakenBack : MethodName := ⟨RX2, "isTakenBack", "(II)Z"⟩
def dkwX2_isTakenBack_2 : List UInt8 := [54, 4, 21, 4, 155, 0, 11, 21, 4, 28, 162, 0, 5, 4, 172, 132, 3, 1, 167, 255, 195, 3, 172]
abbrev dktX2_isTakenBack_2 : List UInt8 := dkwX2_isTakenBack_2 ++ []
def dkwX2_isTakenBack_1 : List UInt8 := [180, 0, 81, 29, 46, 27, 160, 0, 17, 42, 29, 42, 180, 0, 66, 7, 46, 182, 1, 107, 167, 0, 4, 2]
abbrev dktX2_isTakenBack_1 : List UInt8 := dkwX2_isTakenBack_1 ++ dktX2_isTakenBack_2
def dkwX2_isTakenBack_0 : List UInt8 := [27, 4, 96, 62, 29, 42, 180, 1, 95, 162, 0, 59, 42, 180, 0, 69, 29, 46, 8, 160, 0, 27, 42]
abbrev dktX2_isTakenBack_0 : List UInt8 := dkwX2_isTakenBack_0 ++ dktX2_isTakenBack_1
theorem dksX2_isTakenBack_0 : cX2_isTakenBack.data.toList.drop 0 = dktX2_isTakenBack_0 := by decide +kernel
theorem dksX2_isTakenBack_1 : cX2_isTakenBack.data.toList.drop 23 = dktX2_isTakenBack_1 := dk_seg dksX2_isTakenBack_0 23 rfl rfl
theorem dksX2_isTakenBack_2 : cX2_isTakenBack.data.toList.drop 47 = dktX2_isTakenBack_2 := dk_seg dksX2_isTakenBack_1 24 rfl rfl
theorem dX2_isTakenBack_0 : decode cX2_isTakenBack 0 = .ok (.iload_n 1, 1) := dk_27 (dk_at dksX2_isTakenBack_0 0 rfl rfl)
theorem dX2_isTakenBack_1 : decode cX2_isTakenBack 1 = .ok (.iconst 1, 1) := dk_4 (dk_at dksX2_isTakenBack_0 1 rfl rfl)
theorem dX2_isTakenBack_2 : decode cX2_isTakenBack 2 = .ok (.iadd, 1) := dk_96 (dk_at dksX2_isTakenBack_0 2 rfl rfl)
theorem dX2_isTakenBack_3 : decode cX2_isTakenBack 3 = .ok (.istore_n 3, 1) := dk_62 (dk_at dksX2_isTakenBack_0 3 rfl rfl)
theorem dX2_isTakenBack_4 : decode cX2_isTakenBack 4 = .ok (.iload_n 3, 1) := dk_29 (dk_at dksX2_isTakenBack_0 4 rfl rfl)
theorem dX2_isTakenBack_5 : decode cX2_isTakenBack 5 = .ok (.aload_n 0, 1) := dk_42 (dk_at dksX2_isTakenBack_0 5 rfl rfl)
theorem dX2_isTakenBack_6 : decode cX2_isTakenBack 6 = .ok (.getfield 351, 3) := dk_180 1 95 (dk_at dksX2_isTakenBack_0 6 rfl rfl)
theorem dX2_isTakenBack_9 : decode cX2_isTakenBack 9 = .ok (.if_icmp .ge 59, 3) := dk_162 0 59 (dk_at dksX2_isTakenBack_0 9 rfl rfl)
theorem dX2_isTakenBack_12 : decode cX2_isTakenBack 12 = .ok (.aload_n 0, 1) := dk_42 (dk_at dksX2_isTakenBack_0 12 rfl rfl)
theorem dX2_isTakenBack_13 : decode cX2_isTakenBack 13 = .ok (.getfield 69, 3) := dk_180 0 69 (dk_at dksX2_isTakenBack_0 13 rfl rfl)
theorem dX2_isTakenBack_16 : decode cX2_isTakenBack 16 = .ok (.iload_n 3, 1) := dk_29 (dk_at dksX2_isTakenBack_0 16 rfl rfl)
theorem dX2_isTakenBack_17 : decode cX2_isTakenBack 17 = .ok (.iaload, 1) := dk_46 (dk_at dksX2_isTakenBack_0 17 rfl rfl)
theorem dX2_isTakenBack_18 : decode cX2_isTakenBack 18 = .ok (.iconst 5, 1) := dk_8 (dk_at dksX2_isTakenBack_0 18 rfl rfl)
theorem dX2_isTakenBack_19 : decode cX2_isTakenBack 19 = .ok (.if_icmp .ne 27, 3) := dk_160 0 27 (dk_at dksX2_isTakenBack_0 19 rfl rfl)
theorem dX2_isTakenBack_22 : decode cX2_isTakenBack 22 = .ok (.aload_n 0, 1) := dk_42 (dk_at dksX2_isTakenBack_0 22 rfl rfl)
theorem dX2_isTakenBack_23 : decode cX2_isTakenBack 23 = .ok (.getfield 81, 3) := dk_180 0 81 (dk_at dksX2_isTakenBack_1 0 rfl rfl)
theorem dX2_isTakenBack_26 : decode cX2_isTakenBack 26 = .ok (.iload_n 3, 1) := dk_29 (dk_at dksX2_isTakenBack_1 3 rfl rfl)
theorem dX2_isTakenBack_27 : decode cX2_isTakenBack 27 = .ok (.iaload, 1) := dk_46 (dk_at dksX2_isTakenBack_1 4 rfl rfl)
theorem dX2_isTakenBack_28 : decode cX2_isTakenBack 28 = .ok (.iload_n 1, 1) := dk_27 (dk_at dksX2_isTakenBack_1 5 rfl rfl)
theorem dX2_isTakenBack_29 : decode cX2_isTakenBack 29 = .ok (.if_icmp .ne 17, 3) := dk_160 0 17 (dk_at dksX2_isTakenBack_1 6 rfl rfl)
theorem dX2_isTakenBack_32 : decode cX2_isTakenBack 32 = .ok (.aload_n 0, 1) := dk_42 (dk_at dksX2_isTakenBack_1 9 rfl rfl)
theorem dX2_isTakenBack_33 : decode cX2_isTakenBack 33 = .ok (.iload_n 3, 1) := dk_29 (dk_at dksX2_isTakenBack_1 10 rfl rfl)
theorem dX2_isTakenBack_34 : decode cX2_isTakenBack 34 = .ok (.aload_n 0, 1) := dk_42 (dk_at dksX2_isTakenBack_1 11 rfl rfl)
theorem dX2_isTakenBack_35 : decode cX2_isTakenBack 35 = .ok (.getfield 66, 3) := dk_180 0 66 (dk_at dksX2_isTakenBack_1 12 rfl rfl)
theorem dX2_isTakenBack_38 : decode cX2_isTakenBack 38 = .ok (.iconst 4, 1) := dk_7 (dk_at dksX2_isTakenBack_1 15 rfl rfl)
theorem dX2_isTakenBack_39 : decode cX2_isTakenBack 39 = .ok (.iaload, 1) := dk_46 (dk_at dksX2_isTakenBack_1 16 rfl rfl)
theorem dX2_isTakenBack_40 : decode cX2_isTakenBack 40 = .ok (.invokevirtual 363, 3) := dk_182 1 107 (dk_at dksX2_isTakenBack_1 17 rfl rfl)
theorem dX2_isTakenBack_43 : decode cX2_isTakenBack 43 = .ok (.goto 4, 3) := dk_167 0 4 (dk_at dksX2_isTakenBack_1 20 rfl rfl)
theorem dX2_isTakenBack_46 : decode cX2_isTakenBack 46 = .ok (.iconst (-1), 1) := dk_2 (dk_at dksX2_isTakenBack_1 23 rfl rfl)
theorem dX2_isTakenBack_47 : decode cX2_isTakenBack 47 = .ok (.istore 4, 2) := dk_54 4 (dk_at dksX2_isTakenBack_2 0 rfl rfl)
theorem dX2_isTakenBack_49 : decode cX2_isTakenBack 49 = .ok (.iload 4, 2) := dk_21 4 (dk_at dksX2_isTakenBack_2 2 rfl rfl)
theorem dX2_isTakenBack_51 : decode cX2_isTakenBack 51 = .ok (.ifCond .lt 11, 3) := dk_155 0 11 (dk_at dksX2_isTakenBack_2 4 rfl rfl)
theorem dX2_isTakenBack_54 : decode cX2_isTakenBack 54 = .ok (.iload 4, 2) := dk_21 4 (dk_at dksX2_isTakenBack_2 7 rfl rfl)
theorem dX2_isTakenBack_56 : decode cX2_isTakenBack 56 = .ok (.iload_n 2, 1) := dk_28 (dk_at dksX2_isTakenBack_2 9 rfl rfl)
theorem dX2_isTakenBack_57 : decode cX2_isTakenBack 57 = .ok (.if_icmp .ge 5, 3) := dk_162 0 5 (dk_at dksX2_isTakenBack_2 10 rfl rfl)
theorem dX2_isTakenBack_60 : decode cX2_isTakenBack 60 = .ok (.iconst 1, 1) := dk_4 (dk_at dksX2_isTakenBack_2 13 rfl rfl)
theorem dX2_isTakenBack_61 : decode cX2_isTakenBack 61 = .ok (.ireturn, 1) := dk_172 (dk_at dksX2_isTakenBack_2 14 rfl rfl)
theorem dX2_isTakenBack_62 : decode cX2_isTakenBack 62 = .ok (.iinc 3 1, 3) := dk_132 3 1 (dk_at dksX2_isTakenBack_2 15 rfl rfl)
theorem dX2_isTakenBack_65 : decode cX2_isTakenBack 65 = .ok (.goto (-61), 3) := dk_167 255 195 (dk_at dksX2_isTakenBack_2 18 rfl rfl)
theorem dX2_isTakenBack_68 : decode cX2_isTakenBack 68 = .ok (.iconst 0, 1) := dk_3 (dk_at dksX2_isTakenBack_2 21 rfl rfl)
theorem dX2_isTakenBack_69 : decode cX2_isTakenBack 69 = .ok (.ireturn, 1) := dk_172 (dk_at dksX2_isTakenBack_2 22 rfl rfl)
abbrev cX2_isOpenAt : ByteArray := prog_23_method_51_code
def yX2_isOpenAt : MethodName := ⟨RX2, "isOpenAt", "(II)Z"⟩
def dkwX2_isOpenAt_1 : List UInt8 := [27, 46, 162, 0, 7, 4, 167, 0, 4, 3, 172]
abbrev dktX2_isOpenAt_1 : List UInt8 := dkwX2_isOpenAt_1 ++ []
def dkwX2_isOpenAt_0 : List UInt8 := [42, 180, 0, 121, 27, 46, 155, 0, 27, 28, 42, 180, 0, 121, 27, 46, 161, 0, 17, 28, 42, 180, 0, 124]
abbrev dktX2_isOpenAt_0 : List UInt8 := dkwX2_isOpenAt_0 ++ dktX2_isOpenAt_1
theorem dksX2_isOpenAt_0 : cX2_isOpenAt.data.toList.drop 0 = dktX2_isOpenAt_0 := by decide +kernel
theorem dksX2_isOpenAt_1 : cX2_isOpenAt.data.toList.drop 24 = dktX2_isOpenAt_1 := dk_seg dksX2_isOpenAt_0 24 rfl rfl
theorem dX2_isOpenAt_0 : decode cX2_isOpenAt 0 = .ok (.aload_n 0, 1) := dk_42 (dk_at dksX2_isOpenAt_0 0 rfl rfl)
theorem dX2_isOpenAt_1 : decode cX2_isOpenAt 1 = .ok (.getfield 121, 3) := dk_180 0 121 (dk_at dksX2_isOpenAt_0 1 rfl rfl)
theorem dX2_isOpenAt_4 : decode cX2_isOpenAt 4 = .ok (.iload_n 1, 1) := dk_27 (dk_at dksX2_isOpenAt_0 4 rfl rfl)
theorem dX2_isOpenAt_5 : decode cX2_isOpenAt 5 = .ok (.iaload, 1) := dk_46 (dk_at dksX2_isOpenAt_0 5 rfl rfl)
theorem dX2_isOpenAt_6 : decode cX2_isOpenAt 6 = .ok (.ifCond .lt 27, 3) := dk_155 0 27 (dk_at dksX2_isOpenAt_0 6 rfl rfl)
theorem dX2_isOpenAt_9 : decode cX2_isOpenAt 9 = .ok (.iload_n 2, 1) := dk_28 (dk_at dksX2_isOpenAt_0 9 rfl rfl)
theorem dX2_isOpenAt_10 : decode cX2_isOpenAt 10 = .ok (.aload_n 0, 1) := dk_42 (dk_at dksX2_isOpenAt_0 10 rfl rfl)
theorem dX2_isOpenAt_11 : decode cX2_isOpenAt 11 = .ok (.getfield 121, 3) := dk_180 0 121 (dk_at dksX2_isOpenAt_0 11 rfl rfl)
theorem dX2_isOpenAt_14 : decode cX2_isOpenAt 14 = .ok (.iload_n 1, 1) := dk_27 (dk_at dksX2_isOpenAt_0 14 rfl rfl)
theorem dX2_isOpenAt_15 : decode cX2_isOpenAt 15 = .ok (.iaload, 1) := dk_46 (dk_at dksX2_isOpenAt_0 15 rfl rfl)
theorem dX2_isOpenAt_16 : decode cX2_isOpenAt 16 = .ok (.if_icmp .lt 17, 3) := dk_161 0 17 (dk_at dksX2_isOpenAt_0 16 rfl rfl)
theorem dX2_isOpenAt_19 : decode cX2_isOpenAt 19 = .ok (.iload_n 2, 1) := dk_28 (dk_at dksX2_isOpenAt_0 19 rfl rfl)
theorem dX2_isOpenAt_20 : decode cX2_isOpenAt 20 = .ok (.aload_n 0, 1) := dk_42 (dk_at dksX2_isOpenAt_0 20 rfl rfl)
theorem dX2_isOpenAt_21 : decode cX2_isOpenAt 21 = .ok (.getfield 124, 3) := dk_180 0 124 (dk_at dksX2_isOpenAt_0 21 rfl rfl)
theorem dX2_isOpenAt_24 : decode cX2_isOpenAt 24 = .ok (.iload_n 1, 1) := dk_27 (dk_at dksX2_isOpenAt_1 0 rfl rfl)
theorem dX2_isOpenAt_25 : decode cX2_isOpenAt 25 = .ok (.iaload, 1) := dk_46 (dk_at dksX2_isOpenAt_1 1 rfl rfl)
theorem dX2_isOpenAt_26 : decode cX2_isOpenAt 26 = .ok (.if_icmp .ge 7, 3) := dk_162 0 7 (dk_at dksX2_isOpenAt_1 2 rfl rfl)
theorem dX2_isOpenAt_29 : decode cX2_isOpenAt 29 = .ok (.iconst 1, 1) := dk_4 (dk_at dksX2_isOpenAt_1 5 rfl rfl)
theorem dX2_isOpenAt_30 : decode cX2_isOpenAt 30 = .ok (.goto 4, 3) := dk_167 0 4 (dk_at dksX2_isOpenAt_1 6 rfl rfl)
theorem dX2_isOpenAt_33 : decode cX2_isOpenAt 33 = .ok (.iconst 0, 1) := dk_3 (dk_at dksX2_isOpenAt_1 9 rfl rfl)
theorem dX2_isOpenAt_34 : decode cX2_isOpenAt 34 = .ok (.ireturn, 1) := dk_172 (dk_at dksX2_isOpenAt_1 10 rfl rfl)
abbrev cX2_offersTo : ByteArray := prog_23_method_54_code
def yX2_offersTo : MethodName := ⟨RX2, "offersTo", "(III)V"⟩
def dkwX2_offersTo_1 : List UInt8 := [181, 1, 131, 42, 28, 181, 1, 134, 42, 29, 181, 1, 128, 177]
abbrev dktX2_offersTo_1 : List UInt8 := dkwX2_offersTo_1 ++ []
def dkwX2_offersTo_0 : List UInt8 := [42, 180, 1, 125, 153, 0, 12, 29, 42, 180, 1, 128, 161, 0, 4, 177, 42, 4, 181, 1, 125, 42, 27]
abbrev dktX2_offersTo_0 : List UInt8 := dkwX2_offersTo_0 ++ dktX2_offersTo_1
theorem dksX2_offersTo_0 : cX2_offersTo.data.toList.drop 0 = dktX2_offersTo_0 := by decide +kernel
theorem dksX2_offersTo_1 : cX2_offersTo.data.toList.drop 23 = dktX2_offersTo_1 := dk_seg dksX2_offersTo_0 23 rfl rfl
theorem dX2_offersTo_0 : decode cX2_offersTo 0 = .ok (.aload_n 0, 1) := dk_42 (dk_at dksX2_offersTo_0 0 rfl rfl)
theorem dX2_offersTo_1 : decode cX2_offersTo 1 = .ok (.getfield 381, 3) := dk_180 1 125 (dk_at dksX2_offersTo_0 1 rfl rfl)
theorem dX2_offersTo_4 : decode cX2_offersTo 4 = .ok (.ifCond .eq 12, 3) := dk_153 0 12 (dk_at dksX2_offersTo_0 4 rfl rfl)
theorem dX2_offersTo_7 : decode cX2_offersTo 7 = .ok (.iload_n 3, 1) := dk_29 (dk_at dksX2_offersTo_0 7 rfl rfl)
theorem dX2_offersTo_8 : decode cX2_offersTo 8 = .ok (.aload_n 0, 1) := dk_42 (dk_at dksX2_offersTo_0 8 rfl rfl)
theorem dX2_offersTo_9 : decode cX2_offersTo 9 = .ok (.getfield 384, 3) := dk_180 1 128 (dk_at dksX2_offersTo_0 9 rfl rfl)
theorem dX2_offersTo_12 : decode cX2_offersTo 12 = .ok (.if_icmp .lt 4, 3) := dk_161 0 4 (dk_at dksX2_offersTo_0 12 rfl rfl)
theorem dX2_offersTo_15 : decode cX2_offersTo 15 = .ok (.return_, 1) := dk_177 (dk_at dksX2_offersTo_0 15 rfl rfl)
theorem dX2_offersTo_16 : decode cX2_offersTo 16 = .ok (.aload_n 0, 1) := dk_42 (dk_at dksX2_offersTo_0 16 rfl rfl)
theorem dX2_offersTo_17 : decode cX2_offersTo 17 = .ok (.iconst 1, 1) := dk_4 (dk_at dksX2_offersTo_0 17 rfl rfl)
theorem dX2_offersTo_18 : decode cX2_offersTo 18 = .ok (.putfield 381, 3) := dk_181 1 125 (dk_at dksX2_offersTo_0 18 rfl rfl)
theorem dX2_offersTo_21 : decode cX2_offersTo 21 = .ok (.aload_n 0, 1) := dk_42 (dk_at dksX2_offersTo_0 21 rfl rfl)
theorem dX2_offersTo_22 : decode cX2_offersTo 22 = .ok (.iload_n 1, 1) := dk_27 (dk_at dksX2_offersTo_0 22 rfl rfl)
theorem dX2_offersTo_23 : decode cX2_offersTo 23 = .ok (.putfield 387, 3) := dk_181 1 131 (dk_at dksX2_offersTo_1 0 rfl rfl)
theorem dX2_offersTo_26 : decode cX2_offersTo 26 = .ok (.aload_n 0, 1) := dk_42 (dk_at dksX2_offersTo_1 3 rfl rfl)
theorem dX2_offersTo_27 : decode cX2_offersTo 27 = .ok (.iload_n 2, 1) := dk_28 (dk_at dksX2_offersTo_1 4 rfl rfl)
theorem dX2_offersTo_28 : decode cX2_offersTo 28 = .ok (.putfield 390, 3) := dk_181 1 134 (dk_at dksX2_offersTo_1 5 rfl rfl)
theorem dX2_offersTo_31 : decode cX2_offersTo 31 = .ok (.aload_n 0, 1) := dk_42 (dk_at dksX2_offersTo_1 8 rfl rfl)
theorem dX2_offersTo_32 : decode cX2_offersTo 32 = .ok (.iload_n 3, 1) := dk_29 (dk_at dksX2_offersTo_1 9 rfl rfl)
theorem dX2_offersTo_33 : decode cX2_offersTo 33 = .ok (.putfield 384, 3) := dk_181 1 128 (dk_at dksX2_offersTo_1 10 rfl rfl)
theorem dX2_offersTo_36 : decode cX2_offersTo 36 = .ok (.return_, 1) := dk_177 (dk_at dksX2_offersTo_1 13 rfl rfl)
abbrev cX2_isAnswered : ByteArray := prog_23_method_55_code
def yX2_isAnswered : MethodName := ⟨RX2, "isAnswered", "(II)Z"⟩
def dkwX2_isAnswered_3 : List UInt8 := [27, 160, 0, 15, 42, 180, 0, 109, 29, 46, 28, 163, 0, 5, 4, 172, 132, 3, 1, 167, 255, 170, 3, 172]
abbrev dktX2_isAnswered_3 : List UInt8 := dkwX2_isAnswered_3 ++ []
def dkwX2_isAnswered_2 : List UInt8 := [46, 16, 6, 160, 0, 7, 4, 167, 0, 4, 3, 54, 4, 21, 4, 153, 0, 25, 42, 180, 0, 81, 29, 46]
abbrev dktX2_isAnswered_2 : List UInt8 := dkwX2_isAnswered_2 ++ dktX2_isAnswered_3
def dkwX2_isAnswered_1 : List UInt8 := [180, 0, 69, 29, 46, 6, 159, 0, 24, 42, 180, 0, 69, 29, 46, 7, 159, 0, 14, 42, 180, 0, 69, 29]
abbrev dktX2_isAnswered_1 : List UInt8 := dkwX2_isAnswered_1 ++ dktX2_isAnswered_2
def dkwX2_isAnswered_0 : List UInt8 := [27, 4, 96, 62, 29, 42, 180, 1, 95, 162, 0, 84, 42, 180, 0, 69, 29, 46, 5, 159, 0, 34, 42]
abbrev dktX2_isAnswered_0 : List UInt8 := dkwX2_isAnswered_0 ++ dktX2_isAnswered_1
theorem dksX2_isAnswered_0 : cX2_isAnswered.data.toList.drop 0 = dktX2_isAnswered_0 := by decide +kernel
theorem dksX2_isAnswered_1 : cX2_isAnswered.data.toList.drop 23 = dktX2_isAnswered_1 := dk_seg dksX2_isAnswered_0 23 rfl rfl
theorem dksX2_isAnswered_2 : cX2_isAnswered.data.toList.drop 47 = dktX2_isAnswered_2 := dk_seg dksX2_isAnswered_1 24 rfl rfl
theorem dksX2_isAnswered_3 : cX2_isAnswered.data.toList.drop 71 = dktX2_isAnswered_3 := dk_seg dksX2_isAnswered_2 24 rfl rfl
theorem dX2_isAnswered_0 : decode cX2_isAnswered 0 = .ok (.iload_n 1, 1) := dk_27 (dk_at dksX2_isAnswered_0 0 rfl rfl)
theorem dX2_isAnswered_1 : decode cX2_isAnswered 1 = .ok (.iconst 1, 1) := dk_4 (dk_at dksX2_isAnswered_0 1 rfl rfl)
theorem dX2_isAnswered_2 : decode cX2_isAnswered 2 = .ok (.iadd, 1) := dk_96 (dk_at dksX2_isAnswered_0 2 rfl rfl)
theorem dX2_isAnswered_3 : decode cX2_isAnswered 3 = .ok (.istore_n 3, 1) := dk_62 (dk_at dksX2_isAnswered_0 3 rfl rfl)
theorem dX2_isAnswered_4 : decode cX2_isAnswered 4 = .ok (.iload_n 3, 1) := dk_29 (dk_at dksX2_isAnswered_0 4 rfl rfl)
theorem dX2_isAnswered_5 : decode cX2_isAnswered 5 = .ok (.aload_n 0, 1) := dk_42 (dk_at dksX2_isAnswered_0 5 rfl rfl)
theorem dX2_isAnswered_6 : decode cX2_isAnswered 6 = .ok (.getfield 351, 3) := dk_180 1 95 (dk_at dksX2_isAnswered_0 6 rfl rfl)
theorem dX2_isAnswered_9 : decode cX2_isAnswered 9 = .ok (.if_icmp .ge 84, 3) := dk_162 0 84 (dk_at dksX2_isAnswered_0 9 rfl rfl)
theorem dX2_isAnswered_12 : decode cX2_isAnswered 12 = .ok (.aload_n 0, 1) := dk_42 (dk_at dksX2_isAnswered_0 12 rfl rfl)
theorem dX2_isAnswered_13 : decode cX2_isAnswered 13 = .ok (.getfield 69, 3) := dk_180 0 69 (dk_at dksX2_isAnswered_0 13 rfl rfl)
theorem dX2_isAnswered_16 : decode cX2_isAnswered 16 = .ok (.iload_n 3, 1) := dk_29 (dk_at dksX2_isAnswered_0 16 rfl rfl)
theorem dX2_isAnswered_17 : decode cX2_isAnswered 17 = .ok (.iaload, 1) := dk_46 (dk_at dksX2_isAnswered_0 17 rfl rfl)
theorem dX2_isAnswered_18 : decode cX2_isAnswered 18 = .ok (.iconst 2, 1) := dk_5 (dk_at dksX2_isAnswered_0 18 rfl rfl)
theorem dX2_isAnswered_19 : decode cX2_isAnswered 19 = .ok (.if_icmp .eq 34, 3) := dk_159 0 34 (dk_at dksX2_isAnswered_0 19 rfl rfl)
theorem dX2_isAnswered_22 : decode cX2_isAnswered 22 = .ok (.aload_n 0, 1) := dk_42 (dk_at dksX2_isAnswered_0 22 rfl rfl)
theorem dX2_isAnswered_23 : decode cX2_isAnswered 23 = .ok (.getfield 69, 3) := dk_180 0 69 (dk_at dksX2_isAnswered_1 0 rfl rfl)
theorem dX2_isAnswered_26 : decode cX2_isAnswered 26 = .ok (.iload_n 3, 1) := dk_29 (dk_at dksX2_isAnswered_1 3 rfl rfl)
theorem dX2_isAnswered_27 : decode cX2_isAnswered 27 = .ok (.iaload, 1) := dk_46 (dk_at dksX2_isAnswered_1 4 rfl rfl)
theorem dX2_isAnswered_28 : decode cX2_isAnswered 28 = .ok (.iconst 3, 1) := dk_6 (dk_at dksX2_isAnswered_1 5 rfl rfl)
theorem dX2_isAnswered_29 : decode cX2_isAnswered 29 = .ok (.if_icmp .eq 24, 3) := dk_159 0 24 (dk_at dksX2_isAnswered_1 6 rfl rfl)
theorem dX2_isAnswered_32 : decode cX2_isAnswered 32 = .ok (.aload_n 0, 1) := dk_42 (dk_at dksX2_isAnswered_1 9 rfl rfl)
theorem dX2_isAnswered_33 : decode cX2_isAnswered 33 = .ok (.getfield 69, 3) := dk_180 0 69 (dk_at dksX2_isAnswered_1 10 rfl rfl)
theorem dX2_isAnswered_36 : decode cX2_isAnswered 36 = .ok (.iload_n 3, 1) := dk_29 (dk_at dksX2_isAnswered_1 13 rfl rfl)
theorem dX2_isAnswered_37 : decode cX2_isAnswered 37 = .ok (.iaload, 1) := dk_46 (dk_at dksX2_isAnswered_1 14 rfl rfl)
theorem dX2_isAnswered_38 : decode cX2_isAnswered 38 = .ok (.iconst 4, 1) := dk_7 (dk_at dksX2_isAnswered_1 15 rfl rfl)
theorem dX2_isAnswered_39 : decode cX2_isAnswered 39 = .ok (.if_icmp .eq 14, 3) := dk_159 0 14 (dk_at dksX2_isAnswered_1 16 rfl rfl)
theorem dX2_isAnswered_42 : decode cX2_isAnswered 42 = .ok (.aload_n 0, 1) := dk_42 (dk_at dksX2_isAnswered_1 19 rfl rfl)
theorem dX2_isAnswered_43 : decode cX2_isAnswered 43 = .ok (.getfield 69, 3) := dk_180 0 69 (dk_at dksX2_isAnswered_1 20 rfl rfl)
theorem dX2_isAnswered_46 : decode cX2_isAnswered 46 = .ok (.iload_n 3, 1) := dk_29 (dk_at dksX2_isAnswered_1 23 rfl rfl)
theorem dX2_isAnswered_47 : decode cX2_isAnswered 47 = .ok (.iaload, 1) := dk_46 (dk_at dksX2_isAnswered_2 0 rfl rfl)
theorem dX2_isAnswered_48 : decode cX2_isAnswered 48 = .ok (.bipush 6, 2) := dk_16 6 (dk_at dksX2_isAnswered_2 1 rfl rfl)
theorem dX2_isAnswered_50 : decode cX2_isAnswered 50 = .ok (.if_icmp .ne 7, 3) := dk_160 0 7 (dk_at dksX2_isAnswered_2 3 rfl rfl)
theorem dX2_isAnswered_53 : decode cX2_isAnswered 53 = .ok (.iconst 1, 1) := dk_4 (dk_at dksX2_isAnswered_2 6 rfl rfl)
theorem dX2_isAnswered_54 : decode cX2_isAnswered 54 = .ok (.goto 4, 3) := dk_167 0 4 (dk_at dksX2_isAnswered_2 7 rfl rfl)
theorem dX2_isAnswered_57 : decode cX2_isAnswered 57 = .ok (.iconst 0, 1) := dk_3 (dk_at dksX2_isAnswered_2 10 rfl rfl)
theorem dX2_isAnswered_58 : decode cX2_isAnswered 58 = .ok (.istore 4, 2) := dk_54 4 (dk_at dksX2_isAnswered_2 11 rfl rfl)
theorem dX2_isAnswered_60 : decode cX2_isAnswered 60 = .ok (.iload 4, 2) := dk_21 4 (dk_at dksX2_isAnswered_2 13 rfl rfl)
theorem dX2_isAnswered_62 : decode cX2_isAnswered 62 = .ok (.ifCond .eq 25, 3) := dk_153 0 25 (dk_at dksX2_isAnswered_2 15 rfl rfl)
theorem dX2_isAnswered_65 : decode cX2_isAnswered 65 = .ok (.aload_n 0, 1) := dk_42 (dk_at dksX2_isAnswered_2 18 rfl rfl)
theorem dX2_isAnswered_66 : decode cX2_isAnswered 66 = .ok (.getfield 81, 3) := dk_180 0 81 (dk_at dksX2_isAnswered_2 19 rfl rfl)
theorem dX2_isAnswered_69 : decode cX2_isAnswered 69 = .ok (.iload_n 3, 1) := dk_29 (dk_at dksX2_isAnswered_2 22 rfl rfl)
theorem dX2_isAnswered_70 : decode cX2_isAnswered 70 = .ok (.iaload, 1) := dk_46 (dk_at dksX2_isAnswered_2 23 rfl rfl)
theorem dX2_isAnswered_71 : decode cX2_isAnswered 71 = .ok (.iload_n 1, 1) := dk_27 (dk_at dksX2_isAnswered_3 0 rfl rfl)
theorem dX2_isAnswered_72 : decode cX2_isAnswered 72 = .ok (.if_icmp .ne 15, 3) := dk_160 0 15 (dk_at dksX2_isAnswered_3 1 rfl rfl)
theorem dX2_isAnswered_75 : decode cX2_isAnswered 75 = .ok (.aload_n 0, 1) := dk_42 (dk_at dksX2_isAnswered_3 4 rfl rfl)
theorem dX2_isAnswered_76 : decode cX2_isAnswered 76 = .ok (.getfield 109, 3) := dk_180 0 109 (dk_at dksX2_isAnswered_3 5 rfl rfl)
theorem dX2_isAnswered_79 : decode cX2_isAnswered 79 = .ok (.iload_n 3, 1) := dk_29 (dk_at dksX2_isAnswered_3 8 rfl rfl)
theorem dX2_isAnswered_80 : decode cX2_isAnswered 80 = .ok (.iaload, 1) := dk_46 (dk_at dksX2_isAnswered_3 9 rfl rfl)
theorem dX2_isAnswered_81 : decode cX2_isAnswered 81 = .ok (.iload_n 2, 1) := dk_28 (dk_at dksX2_isAnswered_3 10 rfl rfl)
theorem dX2_isAnswered_82 : decode cX2_isAnswered 82 = .ok (.if_icmp .gt 5, 3) := dk_163 0 5 (dk_at dksX2_isAnswered_3 11 rfl rfl)
theorem dX2_isAnswered_85 : decode cX2_isAnswered 85 = .ok (.iconst 1, 1) := dk_4 (dk_at dksX2_isAnswered_3 14 rfl rfl)
theorem dX2_isAnswered_86 : decode cX2_isAnswered 86 = .ok (.ireturn, 1) := dk_172 (dk_at dksX2_isAnswered_3 15 rfl rfl)
theorem dX2_isAnswered_87 : decode cX2_isAnswered 87 = .ok (.iinc 3 1, 3) := dk_132 3 1 (dk_at dksX2_isAnswered_3 16 rfl rfl)
theorem dX2_isAnswered_90 : decode cX2_isAnswered 90 = .ok (.goto (-86), 3) := dk_167 255 170 (dk_at dksX2_isAnswered_3 19 rfl rfl)
theorem dX2_isAnswered_93 : decode cX2_isAnswered 93 = .ok (.iconst 0, 1) := dk_3 (dk_at dksX2_isAnswered_3 22 rfl rfl)
theorem dX2_isAnswered_94 : decode cX2_isAnswered 94 = .ok (.ireturn, 1) := dk_172 (dk_at dksX2_isAnswered_3 23 rfl rfl)
abbrev cX2_bargainWord : ByteArray := prog_23_method_59_code
def yX2_bargainWord : MethodName := ⟨RX2, "bargainWord", "(I)I"⟩
def dkwX2_bargainWord_3 : List UInt8 := [180, 0, 94, 8, 42, 180, 1, 131, 104, 27, 96, 46, 167, 0, 4, 2, 172]
abbrev dktX2_bargainWord_3 : List UInt8 := dkwX2_bargainWord_3 ++ []
def dkwX2_bargainWord_2 : List UInt8 := [180, 0, 66, 16, 10, 46, 154, 0, 5, 28, 172, 42, 180, 0, 66, 16, 10, 46, 4, 160, 0, 19, 42]
abbrev dktX2_bargainWord_2 : List UInt8 := dkwX2_bargainWord_2 ++ dktX2_bargainWord_3
def dkwX2_bargainWord_1 : List UInt8 := [182, 1, 104, 153, 0, 29, 42, 180, 0, 94, 8, 42, 180, 1, 131, 104, 27, 96, 46, 155, 0, 13, 42]
abbrev dktX2_bargainWord_1 : List UInt8 := dkwX2_bargainWord_1 ++ dktX2_bargainWord_2
def dkwX2_bargainWord_0 : List UInt8 := [42, 42, 180, 1, 134, 27, 182, 1, 165, 61, 42, 180, 1, 131, 155, 0, 40, 42, 42, 180, 1, 131]
abbrev dktX2_bargainWord_0 : List UInt8 := dkwX2_bargainWord_0 ++ dktX2_bargainWord_1
theorem dksX2_bargainWord_0 : cX2_bargainWord.data.toList.drop 0 = dktX2_bargainWord_0 := by decide +kernel
theorem dksX2_bargainWord_1 : cX2_bargainWord.data.toList.drop 22 = dktX2_bargainWord_1 := dk_seg dksX2_bargainWord_0 22 rfl rfl
theorem dksX2_bargainWord_2 : cX2_bargainWord.data.toList.drop 45 = dktX2_bargainWord_2 := dk_seg dksX2_bargainWord_1 23 rfl rfl
theorem dksX2_bargainWord_3 : cX2_bargainWord.data.toList.drop 68 = dktX2_bargainWord_3 := dk_seg dksX2_bargainWord_2 23 rfl rfl
theorem dX2_bargainWord_0 : decode cX2_bargainWord 0 = .ok (.aload_n 0, 1) := dk_42 (dk_at dksX2_bargainWord_0 0 rfl rfl)
theorem dX2_bargainWord_1 : decode cX2_bargainWord 1 = .ok (.aload_n 0, 1) := dk_42 (dk_at dksX2_bargainWord_0 1 rfl rfl)
theorem dX2_bargainWord_2 : decode cX2_bargainWord 2 = .ok (.getfield 390, 3) := dk_180 1 134 (dk_at dksX2_bargainWord_0 2 rfl rfl)
theorem dX2_bargainWord_5 : decode cX2_bargainWord 5 = .ok (.iload_n 1, 1) := dk_27 (dk_at dksX2_bargainWord_0 5 rfl rfl)
theorem dX2_bargainWord_6 : decode cX2_bargainWord 6 = .ok (.invokevirtual 421, 3) := dk_182 1 165 (dk_at dksX2_bargainWord_0 6 rfl rfl)
theorem dX2_bargainWord_9 : decode cX2_bargainWord 9 = .ok (.istore_n 2, 1) := dk_61 (dk_at dksX2_bargainWord_0 9 rfl rfl)
theorem dX2_bargainWord_10 : decode cX2_bargainWord 10 = .ok (.aload_n 0, 1) := dk_42 (dk_at dksX2_bargainWord_0 10 rfl rfl)
theorem dX2_bargainWord_11 : decode cX2_bargainWord 11 = .ok (.getfield 387, 3) := dk_180 1 131 (dk_at dksX2_bargainWord_0 11 rfl rfl)
theorem dX2_bargainWord_14 : decode cX2_bargainWord 14 = .ok (.ifCond .lt 40, 3) := dk_155 0 40 (dk_at dksX2_bargainWord_0 14 rfl rfl)
theorem dX2_bargainWord_17 : decode cX2_bargainWord 17 = .ok (.aload_n 0, 1) := dk_42 (dk_at dksX2_bargainWord_0 17 rfl rfl)
theorem dX2_bargainWord_18 : decode cX2_bargainWord 18 = .ok (.aload_n 0, 1) := dk_42 (dk_at dksX2_bargainWord_0 18 rfl rfl)
theorem dX2_bargainWord_19 : decode cX2_bargainWord 19 = .ok (.getfield 387, 3) := dk_180 1 131 (dk_at dksX2_bargainWord_0 19 rfl rfl)
theorem dX2_bargainWord_22 : decode cX2_bargainWord 22 = .ok (.invokevirtual 360, 3) := dk_182 1 104 (dk_at dksX2_bargainWord_1 0 rfl rfl)
theorem dX2_bargainWord_25 : decode cX2_bargainWord 25 = .ok (.ifCond .eq 29, 3) := dk_153 0 29 (dk_at dksX2_bargainWord_1 3 rfl rfl)
theorem dX2_bargainWord_28 : decode cX2_bargainWord 28 = .ok (.aload_n 0, 1) := dk_42 (dk_at dksX2_bargainWord_1 6 rfl rfl)
theorem dX2_bargainWord_29 : decode cX2_bargainWord 29 = .ok (.getfield 94, 3) := dk_180 0 94 (dk_at dksX2_bargainWord_1 7 rfl rfl)
theorem dX2_bargainWord_32 : decode cX2_bargainWord 32 = .ok (.iconst 5, 1) := dk_8 (dk_at dksX2_bargainWord_1 10 rfl rfl)
theorem dX2_bargainWord_33 : decode cX2_bargainWord 33 = .ok (.aload_n 0, 1) := dk_42 (dk_at dksX2_bargainWord_1 11 rfl rfl)
theorem dX2_bargainWord_34 : decode cX2_bargainWord 34 = .ok (.getfield 387, 3) := dk_180 1 131 (dk_at dksX2_bargainWord_1 12 rfl rfl)
theorem dX2_bargainWord_37 : decode cX2_bargainWord 37 = .ok (.imul, 1) := dk_104 (dk_at dksX2_bargainWord_1 15 rfl rfl)
theorem dX2_bargainWord_38 : decode cX2_bargainWord 38 = .ok (.iload_n 1, 1) := dk_27 (dk_at dksX2_bargainWord_1 16 rfl rfl)
theorem dX2_bargainWord_39 : decode cX2_bargainWord 39 = .ok (.iadd, 1) := dk_96 (dk_at dksX2_bargainWord_1 17 rfl rfl)
theorem dX2_bargainWord_40 : decode cX2_bargainWord 40 = .ok (.iaload, 1) := dk_46 (dk_at dksX2_bargainWord_1 18 rfl rfl)
theorem dX2_bargainWord_41 : decode cX2_bargainWord 41 = .ok (.ifCond .lt 13, 3) := dk_155 0 13 (dk_at dksX2_bargainWord_1 19 rfl rfl)
theorem dX2_bargainWord_44 : decode cX2_bargainWord 44 = .ok (.aload_n 0, 1) := dk_42 (dk_at dksX2_bargainWord_1 22 rfl rfl)
theorem dX2_bargainWord_45 : decode cX2_bargainWord 45 = .ok (.getfield 66, 3) := dk_180 0 66 (dk_at dksX2_bargainWord_2 0 rfl rfl)
theorem dX2_bargainWord_48 : decode cX2_bargainWord 48 = .ok (.bipush 10, 2) := dk_16 10 (dk_at dksX2_bargainWord_2 3 rfl rfl)
theorem dX2_bargainWord_50 : decode cX2_bargainWord 50 = .ok (.iaload, 1) := dk_46 (dk_at dksX2_bargainWord_2 5 rfl rfl)
theorem dX2_bargainWord_51 : decode cX2_bargainWord 51 = .ok (.ifCond .ne 5, 3) := dk_154 0 5 (dk_at dksX2_bargainWord_2 6 rfl rfl)
theorem dX2_bargainWord_54 : decode cX2_bargainWord 54 = .ok (.iload_n 2, 1) := dk_28 (dk_at dksX2_bargainWord_2 9 rfl rfl)
theorem dX2_bargainWord_55 : decode cX2_bargainWord 55 = .ok (.ireturn, 1) := dk_172 (dk_at dksX2_bargainWord_2 10 rfl rfl)
theorem dX2_bargainWord_56 : decode cX2_bargainWord 56 = .ok (.aload_n 0, 1) := dk_42 (dk_at dksX2_bargainWord_2 11 rfl rfl)
theorem dX2_bargainWord_57 : decode cX2_bargainWord 57 = .ok (.getfield 66, 3) := dk_180 0 66 (dk_at dksX2_bargainWord_2 12 rfl rfl)
theorem dX2_bargainWord_60 : decode cX2_bargainWord 60 = .ok (.bipush 10, 2) := dk_16 10 (dk_at dksX2_bargainWord_2 15 rfl rfl)
theorem dX2_bargainWord_62 : decode cX2_bargainWord 62 = .ok (.iaload, 1) := dk_46 (dk_at dksX2_bargainWord_2 17 rfl rfl)
theorem dX2_bargainWord_63 : decode cX2_bargainWord 63 = .ok (.iconst 1, 1) := dk_4 (dk_at dksX2_bargainWord_2 18 rfl rfl)
theorem dX2_bargainWord_64 : decode cX2_bargainWord 64 = .ok (.if_icmp .ne 19, 3) := dk_160 0 19 (dk_at dksX2_bargainWord_2 19 rfl rfl)
theorem dX2_bargainWord_67 : decode cX2_bargainWord 67 = .ok (.aload_n 0, 1) := dk_42 (dk_at dksX2_bargainWord_2 22 rfl rfl)
theorem dX2_bargainWord_68 : decode cX2_bargainWord 68 = .ok (.getfield 94, 3) := dk_180 0 94 (dk_at dksX2_bargainWord_3 0 rfl rfl)
theorem dX2_bargainWord_71 : decode cX2_bargainWord 71 = .ok (.iconst 5, 1) := dk_8 (dk_at dksX2_bargainWord_3 3 rfl rfl)
theorem dX2_bargainWord_72 : decode cX2_bargainWord 72 = .ok (.aload_n 0, 1) := dk_42 (dk_at dksX2_bargainWord_3 4 rfl rfl)
theorem dX2_bargainWord_73 : decode cX2_bargainWord 73 = .ok (.getfield 387, 3) := dk_180 1 131 (dk_at dksX2_bargainWord_3 5 rfl rfl)
theorem dX2_bargainWord_76 : decode cX2_bargainWord 76 = .ok (.imul, 1) := dk_104 (dk_at dksX2_bargainWord_3 8 rfl rfl)
theorem dX2_bargainWord_77 : decode cX2_bargainWord 77 = .ok (.iload_n 1, 1) := dk_27 (dk_at dksX2_bargainWord_3 9 rfl rfl)
theorem dX2_bargainWord_78 : decode cX2_bargainWord 78 = .ok (.iadd, 1) := dk_96 (dk_at dksX2_bargainWord_3 10 rfl rfl)
theorem dX2_bargainWord_79 : decode cX2_bargainWord 79 = .ok (.iaload, 1) := dk_46 (dk_at dksX2_bargainWord_3 11 rfl rfl)
theorem dX2_bargainWord_80 : decode cX2_bargainWord 80 = .ok (.goto 4, 3) := dk_167 0 4 (dk_at dksX2_bargainWord_3 12 rfl rfl)
theorem dX2_bargainWord_83 : decode cX2_bargainWord 83 = .ok (.iconst (-1), 1) := dk_2 (dk_at dksX2_bargainWord_3 15 rfl rfl)
theorem dX2_bargainWord_84 : decode cX2_bargainWord 84 = .ok (.ireturn, 1) := dk_172 (dk_at dksX2_bargainWord_3 16 rfl rfl)
abbrev cX2_wordOf : ByteArray := prog_23_method_58_code
def yX2_wordOf : MethodName := ⟨RX2, "wordOf", "(II)I"⟩
def dkwX2_wordOf_1 : List UInt8 := [160, 0, 13, 42, 180, 0, 81, 29, 46, 62, 167, 255, 226, 42, 180, 0, 94, 8, 29, 104, 28, 96, 46, 172]
abbrev dktX2_wordOf_1 : List UInt8 := dkwX2_wordOf_1 ++ []
def dkwX2_wordOf_0 : List UInt8 := [27, 62, 42, 180, 0, 94, 8, 29, 104, 28, 96, 46, 156, 0, 23, 42, 180, 0, 69, 29, 46, 6]
abbrev dktX2_wordOf_0 : List UInt8 := dkwX2_wordOf_0 ++ dktX2_wordOf_1
theorem dksX2_wordOf_0 : cX2_wordOf.data.toList.drop 0 = dktX2_wordOf_0 := by decide +kernel
theorem dksX2_wordOf_1 : cX2_wordOf.data.toList.drop 22 = dktX2_wordOf_1 := dk_seg dksX2_wordOf_0 22 rfl rfl
theorem dX2_wordOf_0 : decode cX2_wordOf 0 = .ok (.iload_n 1, 1) := dk_27 (dk_at dksX2_wordOf_0 0 rfl rfl)
theorem dX2_wordOf_1 : decode cX2_wordOf 1 = .ok (.istore_n 3, 1) := dk_62 (dk_at dksX2_wordOf_0 1 rfl rfl)
theorem dX2_wordOf_2 : decode cX2_wordOf 2 = .ok (.aload_n 0, 1) := dk_42 (dk_at dksX2_wordOf_0 2 rfl rfl)
theorem dX2_wordOf_3 : decode cX2_wordOf 3 = .ok (.getfield 94, 3) := dk_180 0 94 (dk_at dksX2_wordOf_0 3 rfl rfl)
theorem dX2_wordOf_6 : decode cX2_wordOf 6 = .ok (.iconst 5, 1) := dk_8 (dk_at dksX2_wordOf_0 6 rfl rfl)
theorem dX2_wordOf_7 : decode cX2_wordOf 7 = .ok (.iload_n 3, 1) := dk_29 (dk_at dksX2_wordOf_0 7 rfl rfl)
theorem dX2_wordOf_8 : decode cX2_wordOf 8 = .ok (.imul, 1) := dk_104 (dk_at dksX2_wordOf_0 8 rfl rfl)
theorem dX2_wordOf_9 : decode cX2_wordOf 9 = .ok (.iload_n 2, 1) := dk_28 (dk_at dksX2_wordOf_0 9 rfl rfl)
theorem dX2_wordOf_10 : decode cX2_wordOf 10 = .ok (.iadd, 1) := dk_96 (dk_at dksX2_wordOf_0 10 rfl rfl)
theorem dX2_wordOf_11 : decode cX2_wordOf 11 = .ok (.iaload, 1) := dk_46 (dk_at dksX2_wordOf_0 11 rfl rfl)
theorem dX2_wordOf_12 : decode cX2_wordOf 12 = .ok (.ifCond .ge 23, 3) := dk_156 0 23 (dk_at dksX2_wordOf_0 12 rfl rfl)
theorem dX2_wordOf_15 : decode cX2_wordOf 15 = .ok (.aload_n 0, 1) := dk_42 (dk_at dksX2_wordOf_0 15 rfl rfl)
theorem dX2_wordOf_16 : decode cX2_wordOf 16 = .ok (.getfield 69, 3) := dk_180 0 69 (dk_at dksX2_wordOf_0 16 rfl rfl)
theorem dX2_wordOf_19 : decode cX2_wordOf 19 = .ok (.iload_n 3, 1) := dk_29 (dk_at dksX2_wordOf_0 19 rfl rfl)
theorem dX2_wordOf_20 : decode cX2_wordOf 20 = .ok (.iaload, 1) := dk_46 (dk_at dksX2_wordOf_0 20 rfl rfl)
theorem dX2_wordOf_21 : decode cX2_wordOf 21 = .ok (.iconst 3, 1) := dk_6 (dk_at dksX2_wordOf_0 21 rfl rfl)
theorem dX2_wordOf_22 : decode cX2_wordOf 22 = .ok (.if_icmp .ne 13, 3) := dk_160 0 13 (dk_at dksX2_wordOf_1 0 rfl rfl)
theorem dX2_wordOf_25 : decode cX2_wordOf 25 = .ok (.aload_n 0, 1) := dk_42 (dk_at dksX2_wordOf_1 3 rfl rfl)
theorem dX2_wordOf_26 : decode cX2_wordOf 26 = .ok (.getfield 81, 3) := dk_180 0 81 (dk_at dksX2_wordOf_1 4 rfl rfl)
theorem dX2_wordOf_29 : decode cX2_wordOf 29 = .ok (.iload_n 3, 1) := dk_29 (dk_at dksX2_wordOf_1 7 rfl rfl)
theorem dX2_wordOf_30 : decode cX2_wordOf 30 = .ok (.iaload, 1) := dk_46 (dk_at dksX2_wordOf_1 8 rfl rfl)
theorem dX2_wordOf_31 : decode cX2_wordOf 31 = .ok (.istore_n 3, 1) := dk_62 (dk_at dksX2_wordOf_1 9 rfl rfl)
theorem dX2_wordOf_32 : decode cX2_wordOf 32 = .ok (.goto (-30), 3) := dk_167 255 226 (dk_at dksX2_wordOf_1 10 rfl rfl)
theorem dX2_wordOf_35 : decode cX2_wordOf 35 = .ok (.aload_n 0, 1) := dk_42 (dk_at dksX2_wordOf_1 13 rfl rfl)
theorem dX2_wordOf_36 : decode cX2_wordOf 36 = .ok (.getfield 94, 3) := dk_180 0 94 (dk_at dksX2_wordOf_1 14 rfl rfl)
theorem dX2_wordOf_39 : decode cX2_wordOf 39 = .ok (.iconst 5, 1) := dk_8 (dk_at dksX2_wordOf_1 17 rfl rfl)
theorem dX2_wordOf_40 : decode cX2_wordOf 40 = .ok (.iload_n 3, 1) := dk_29 (dk_at dksX2_wordOf_1 18 rfl rfl)
theorem dX2_wordOf_41 : decode cX2_wordOf 41 = .ok (.imul, 1) := dk_104 (dk_at dksX2_wordOf_1 19 rfl rfl)
theorem dX2_wordOf_42 : decode cX2_wordOf 42 = .ok (.iload_n 2, 1) := dk_28 (dk_at dksX2_wordOf_1 20 rfl rfl)
theorem dX2_wordOf_43 : decode cX2_wordOf 43 = .ok (.iadd, 1) := dk_96 (dk_at dksX2_wordOf_1 21 rfl rfl)
theorem dX2_wordOf_44 : decode cX2_wordOf 44 = .ok (.iaload, 1) := dk_46 (dk_at dksX2_wordOf_1 22 rfl rfl)
theorem dX2_wordOf_45 : decode cX2_wordOf 45 = .ok (.ireturn, 1) := dk_172 (dk_at dksX2_wordOf_1 23 rfl rfl)
abbrev cX2_open : ByteArray := prog_23_method_67_code
def yX2_open : MethodName := ⟨RX2, "open", "(IIIII)I"⟩
def dkwX2_open_3 : List UInt8 := [180, 0, 124, 21, 4, 46, 167, 0, 10, 42, 180, 0, 127, 21, 4, 46, 172]
abbrev dktX2_open_3 : List UInt8 := dkwX2_open_3 ++ []
def dkwX2_open_2 : List UInt8 := [21, 5, 154, 0, 13, 42, 180, 0, 121, 21, 4, 46, 167, 0, 26, 21, 5, 4, 160, 0, 13, 42]
abbrev dktX2_open_2 : List UInt8 := dkwX2_open_2 ++ dktX2_open_3
def dkwX2_open_1 : List UInt8 := [155, 0, 21, 21, 4, 42, 180, 1, 95, 162, 0, 12, 42, 21, 4, 182, 1, 113, 154, 0, 6, 16, 254, 172]
abbrev dktX2_open_1 : List UInt8 := dkwX2_open_1 ++ dktX2_open_2
def dkwX2_open_0 : List UInt8 := [21, 5, 3, 5, 184, 0, 176, 153, 0, 36, 42, 27, 28, 29, 182, 1, 190, 153, 0, 26, 21, 4]
abbrev dktX2_open_0 : List UInt8 := dkwX2_open_0 ++ dktX2_open_1
theorem dksX2_open_0 : cX2_open.data.toList.drop 0 = dktX2_open_0 := by decide +kernel
theorem dksX2_open_1 : cX2_open.data.toList.drop 22 = dktX2_open_1 := dk_seg dksX2_open_0 22 rfl rfl
theorem dksX2_open_2 : cX2_open.data.toList.drop 46 = dktX2_open_2 := dk_seg dksX2_open_1 24 rfl rfl
theorem dksX2_open_3 : cX2_open.data.toList.drop 68 = dktX2_open_3 := dk_seg dksX2_open_2 22 rfl rfl
theorem dX2_open_0 : decode cX2_open 0 = .ok (.iload 5, 2) := dk_21 5 (dk_at dksX2_open_0 0 rfl rfl)
theorem dX2_open_2 : decode cX2_open 2 = .ok (.iconst 0, 1) := dk_3 (dk_at dksX2_open_0 2 rfl rfl)
theorem dX2_open_3 : decode cX2_open 3 = .ok (.iconst 2, 1) := dk_5 (dk_at dksX2_open_0 3 rfl rfl)
theorem dX2_open_4 : decode cX2_open 4 = .ok (.invokestatic 176, 3) := dk_184 0 176 (dk_at dksX2_open_0 4 rfl rfl)
theorem dX2_open_7 : decode cX2_open 7 = .ok (.ifCond .eq 36, 3) := dk_153 0 36 (dk_at dksX2_open_0 7 rfl rfl)
theorem dX2_open_10 : decode cX2_open 10 = .ok (.aload_n 0, 1) := dk_42 (dk_at dksX2_open_0 10 rfl rfl)
theorem dX2_open_11 : decode cX2_open 11 = .ok (.iload_n 1, 1) := dk_27 (dk_at dksX2_open_0 11 rfl rfl)
theorem dX2_open_12 : decode cX2_open 12 = .ok (.iload_n 2, 1) := dk_28 (dk_at dksX2_open_0 12 rfl rfl)
theorem dX2_open_13 : decode cX2_open 13 = .ok (.iload_n 3, 1) := dk_29 (dk_at dksX2_open_0 13 rfl rfl)
theorem dX2_open_14 : decode cX2_open 14 = .ok (.invokevirtual 446, 3) := dk_182 1 190 (dk_at dksX2_open_0 14 rfl rfl)
theorem dX2_open_17 : decode cX2_open 17 = .ok (.ifCond .eq 26, 3) := dk_153 0 26 (dk_at dksX2_open_0 17 rfl rfl)
theorem dX2_open_20 : decode cX2_open 20 = .ok (.iload 4, 2) := dk_21 4 (dk_at dksX2_open_0 20 rfl rfl)
theorem dX2_open_22 : decode cX2_open 22 = .ok (.ifCond .lt 21, 3) := dk_155 0 21 (dk_at dksX2_open_1 0 rfl rfl)
theorem dX2_open_25 : decode cX2_open 25 = .ok (.iload 4, 2) := dk_21 4 (dk_at dksX2_open_1 3 rfl rfl)
theorem dX2_open_27 : decode cX2_open 27 = .ok (.aload_n 0, 1) := dk_42 (dk_at dksX2_open_1 5 rfl rfl)
theorem dX2_open_28 : decode cX2_open 28 = .ok (.getfield 351, 3) := dk_180 1 95 (dk_at dksX2_open_1 6 rfl rfl)
theorem dX2_open_31 : decode cX2_open 31 = .ok (.if_icmp .ge 12, 3) := dk_162 0 12 (dk_at dksX2_open_1 9 rfl rfl)
theorem dX2_open_34 : decode cX2_open 34 = .ok (.aload_n 0, 1) := dk_42 (dk_at dksX2_open_1 12 rfl rfl)
theorem dX2_open_35 : decode cX2_open 35 = .ok (.iload 4, 2) := dk_21 4 (dk_at dksX2_open_1 13 rfl rfl)
theorem dX2_open_37 : decode cX2_open 37 = .ok (.invokevirtual 369, 3) := dk_182 1 113 (dk_at dksX2_open_1 15 rfl rfl)
theorem dX2_open_40 : decode cX2_open 40 = .ok (.ifCond .ne 6, 3) := dk_154 0 6 (dk_at dksX2_open_1 18 rfl rfl)
theorem dX2_open_43 : decode cX2_open 43 = .ok (.bipush (-2), 2) := dk_16 254 (dk_at dksX2_open_1 21 rfl rfl)
theorem dX2_open_45 : decode cX2_open 45 = .ok (.ireturn, 1) := dk_172 (dk_at dksX2_open_1 23 rfl rfl)
theorem dX2_open_46 : decode cX2_open 46 = .ok (.iload 5, 2) := dk_21 5 (dk_at dksX2_open_2 0 rfl rfl)
theorem dX2_open_48 : decode cX2_open 48 = .ok (.ifCond .ne 13, 3) := dk_154 0 13 (dk_at dksX2_open_2 2 rfl rfl)
theorem dX2_open_51 : decode cX2_open 51 = .ok (.aload_n 0, 1) := dk_42 (dk_at dksX2_open_2 5 rfl rfl)
theorem dX2_open_52 : decode cX2_open 52 = .ok (.getfield 121, 3) := dk_180 0 121 (dk_at dksX2_open_2 6 rfl rfl)
theorem dX2_open_55 : decode cX2_open 55 = .ok (.iload 4, 2) := dk_21 4 (dk_at dksX2_open_2 9 rfl rfl)
theorem dX2_open_57 : decode cX2_open 57 = .ok (.iaload, 1) := dk_46 (dk_at dksX2_open_2 11 rfl rfl)
theorem dX2_open_58 : decode cX2_open 58 = .ok (.goto 26, 3) := dk_167 0 26 (dk_at dksX2_open_2 12 rfl rfl)
theorem dX2_open_61 : decode cX2_open 61 = .ok (.iload 5, 2) := dk_21 5 (dk_at dksX2_open_2 15 rfl rfl)
theorem dX2_open_63 : decode cX2_open 63 = .ok (.iconst 1, 1) := dk_4 (dk_at dksX2_open_2 17 rfl rfl)
theorem dX2_open_64 : decode cX2_open 64 = .ok (.if_icmp .ne 13, 3) := dk_160 0 13 (dk_at dksX2_open_2 18 rfl rfl)
theorem dX2_open_67 : decode cX2_open 67 = .ok (.aload_n 0, 1) := dk_42 (dk_at dksX2_open_2 21 rfl rfl)
theorem dX2_open_68 : decode cX2_open 68 = .ok (.getfield 124, 3) := dk_180 0 124 (dk_at dksX2_open_3 0 rfl rfl)
theorem dX2_open_71 : decode cX2_open 71 = .ok (.iload 4, 2) := dk_21 4 (dk_at dksX2_open_3 3 rfl rfl)
theorem dX2_open_73 : decode cX2_open 73 = .ok (.iaload, 1) := dk_46 (dk_at dksX2_open_3 5 rfl rfl)
theorem dX2_open_74 : decode cX2_open 74 = .ok (.goto 10, 3) := dk_167 0 10 (dk_at dksX2_open_3 6 rfl rfl)
theorem dX2_open_77 : decode cX2_open 77 = .ok (.aload_n 0, 1) := dk_42 (dk_at dksX2_open_3 9 rfl rfl)
theorem dX2_open_78 : decode cX2_open 78 = .ok (.getfield 127, 3) := dk_180 0 127 (dk_at dksX2_open_3 10 rfl rfl)
theorem dX2_open_81 : decode cX2_open 81 = .ok (.iload 4, 2) := dk_21 4 (dk_at dksX2_open_3 13 rfl rfl)
theorem dX2_open_83 : decode cX2_open 83 = .ok (.iaload, 1) := dk_46 (dk_at dksX2_open_3 15 rfl rfl)
theorem dX2_open_84 : decode cX2_open 84 = .ok (.ireturn, 1) := dk_172 (dk_at dksX2_open_3 16 rfl rfl)
abbrev cX2_binds : ByteArray := prog_23_method_68_code
def yX2_binds : MethodName := ⟨RX2, "binds", "(III)I"⟩
def dkwX2_binds_2 : List UInt8 := [3, 172]
abbrev dktX2_binds_2 : List UInt8 := dkwX2_binds_2 ++ []
def dkwX2_binds_1 : List UInt8 := [180, 0, 84, 42, 180, 1, 134, 46, 120, 4, 42, 180, 0, 87, 42, 180, 1, 134, 46, 120, 128, 167, 0, 4]
abbrev dktX2_binds_1 : List UInt8 := dkwX2_binds_1 ++ dktX2_binds_2
def dkwX2_binds_0 : List UInt8 := [42, 27, 28, 29, 182, 1, 190, 154, 0, 6, 16, 254, 172, 42, 180, 1, 125, 153, 0, 29, 4, 42]
abbrev dktX2_binds_0 : List UInt8 := dkwX2_binds_0 ++ dktX2_binds_1
theorem dksX2_binds_0 : cX2_binds.data.toList.drop 0 = dktX2_binds_0 := by decide +kernel
theorem dksX2_binds_1 : cX2_binds.data.toList.drop 22 = dktX2_binds_1 := dk_seg dksX2_binds_0 22 rfl rfl
theorem dksX2_binds_2 : cX2_binds.data.toList.drop 46 = dktX2_binds_2 := dk_seg dksX2_binds_1 24 rfl rfl
theorem dX2_binds_0 : decode cX2_binds 0 = .ok (.aload_n 0, 1) := dk_42 (dk_at dksX2_binds_0 0 rfl rfl)
theorem dX2_binds_1 : decode cX2_binds 1 = .ok (.iload_n 1, 1) := dk_27 (dk_at dksX2_binds_0 1 rfl rfl)
theorem dX2_binds_2 : decode cX2_binds 2 = .ok (.iload_n 2, 1) := dk_28 (dk_at dksX2_binds_0 2 rfl rfl)
theorem dX2_binds_3 : decode cX2_binds 3 = .ok (.iload_n 3, 1) := dk_29 (dk_at dksX2_binds_0 3 rfl rfl)
theorem dX2_binds_4 : decode cX2_binds 4 = .ok (.invokevirtual 446, 3) := dk_182 1 190 (dk_at dksX2_binds_0 4 rfl rfl)
theorem dX2_binds_7 : decode cX2_binds 7 = .ok (.ifCond .ne 6, 3) := dk_154 0 6 (dk_at dksX2_binds_0 7 rfl rfl)
theorem dX2_binds_10 : decode cX2_binds 10 = .ok (.bipush (-2), 2) := dk_16 254 (dk_at dksX2_binds_0 10 rfl rfl)
theorem dX2_binds_12 : decode cX2_binds 12 = .ok (.ireturn, 1) := dk_172 (dk_at dksX2_binds_0 12 rfl rfl)
theorem dX2_binds_13 : decode cX2_binds 13 = .ok (.aload_n 0, 1) := dk_42 (dk_at dksX2_binds_0 13 rfl rfl)
theorem dX2_binds_14 : decode cX2_binds 14 = .ok (.getfield 381, 3) := dk_180 1 125 (dk_at dksX2_binds_0 14 rfl rfl)
theorem dX2_binds_17 : decode cX2_binds 17 = .ok (.ifCond .eq 29, 3) := dk_153 0 29 (dk_at dksX2_binds_0 17 rfl rfl)
theorem dX2_binds_20 : decode cX2_binds 20 = .ok (.iconst 1, 1) := dk_4 (dk_at dksX2_binds_0 20 rfl rfl)
theorem dX2_binds_21 : decode cX2_binds 21 = .ok (.aload_n 0, 1) := dk_42 (dk_at dksX2_binds_0 21 rfl rfl)
theorem dX2_binds_22 : decode cX2_binds 22 = .ok (.getfield 84, 3) := dk_180 0 84 (dk_at dksX2_binds_1 0 rfl rfl)
theorem dX2_binds_25 : decode cX2_binds 25 = .ok (.aload_n 0, 1) := dk_42 (dk_at dksX2_binds_1 3 rfl rfl)
theorem dX2_binds_26 : decode cX2_binds 26 = .ok (.getfield 390, 3) := dk_180 1 134 (dk_at dksX2_binds_1 4 rfl rfl)
theorem dX2_binds_29 : decode cX2_binds 29 = .ok (.iaload, 1) := dk_46 (dk_at dksX2_binds_1 7 rfl rfl)
theorem dX2_binds_30 : decode cX2_binds 30 = .ok (.ishl, 1) := dk_120 (dk_at dksX2_binds_1 8 rfl rfl)
theorem dX2_binds_31 : decode cX2_binds 31 = .ok (.iconst 1, 1) := dk_4 (dk_at dksX2_binds_1 9 rfl rfl)
theorem dX2_binds_32 : decode cX2_binds 32 = .ok (.aload_n 0, 1) := dk_42 (dk_at dksX2_binds_1 10 rfl rfl)
theorem dX2_binds_33 : decode cX2_binds 33 = .ok (.getfield 87, 3) := dk_180 0 87 (dk_at dksX2_binds_1 11 rfl rfl)
theorem dX2_binds_36 : decode cX2_binds 36 = .ok (.aload_n 0, 1) := dk_42 (dk_at dksX2_binds_1 14 rfl rfl)
theorem dX2_binds_37 : decode cX2_binds 37 = .ok (.getfield 390, 3) := dk_180 1 134 (dk_at dksX2_binds_1 15 rfl rfl)
theorem dX2_binds_40 : decode cX2_binds 40 = .ok (.iaload, 1) := dk_46 (dk_at dksX2_binds_1 18 rfl rfl)
theorem dX2_binds_41 : decode cX2_binds 41 = .ok (.ishl, 1) := dk_120 (dk_at dksX2_binds_1 19 rfl rfl)
theorem dX2_binds_42 : decode cX2_binds 42 = .ok (.ior, 1) := dk_128 (dk_at dksX2_binds_1 20 rfl rfl)
theorem dX2_binds_43 : decode cX2_binds 43 = .ok (.goto 4, 3) := dk_167 0 4 (dk_at dksX2_binds_1 21 rfl rfl)
theorem dX2_binds_46 : decode cX2_binds 46 = .ok (.iconst 0, 1) := dk_3 (dk_at dksX2_binds_2 0 rfl rfl)
theorem dX2_binds_47 : decode cX2_binds 47 = .ok (.ireturn, 1) := dk_172 (dk_at dksX2_binds_2 1 rfl rfl)
abbrev cX2_sure : ByteArray := prog_23_method_69_code
def yX2_sure : MethodName := ⟨RX2, "sure", "(III)I"⟩
def dkwX2_sure_7 : List UInt8 := [21, 7, 167, 0, 5, 21, 8, 172]
abbrev dktX2_sure_7 : List UInt8 := dkwX2_sure_7 ++ []
def dkwX2_sure_6 : List UInt8 := [160, 0, 8, 21, 5, 167, 0, 25, 29, 5, 160, 0, 8, 21, 6, 167, 0, 15, 29, 6, 160, 0, 8]
abbrev dktX2_sure_6 : List UInt8 := dkwX2_sure_6 ++ dktX2_sure_7
def dkwX2_sure_5 : List UInt8 := [180, 1, 128, 54, 8, 132, 9, 1, 167, 255, 172, 29, 154, 0, 8, 21, 4, 167, 0, 35, 29, 4]
abbrev dktX2_sure_5 : List UInt8 := dkwX2_sure_5 ++ dktX2_sure_6
def dkwX2_sure_4 : List UInt8 := [180, 1, 128, 21, 7, 162, 0, 9, 42, 180, 1, 128, 54, 7, 42, 180, 1, 128, 21, 8, 164, 0, 9, 42]
abbrev dktX2_sure_4 : List UInt8 := dkwX2_sure_4 ++ dktX2_sure_5
def dkwX2_sure_3 : List UInt8 := [54, 6, 167, 0, 50, 132, 4, 1, 21, 5, 156, 0, 7, 21, 9, 54, 5, 21, 7, 155, 0, 12, 42]
abbrev dktX2_sure_3 : List UInt8 := dkwX2_sure_3 ++ dktX2_sure_4
def dkwX2_sure_2 : List UInt8 := [162, 0, 81, 42, 21, 9, 182, 1, 175, 42, 180, 1, 125, 154, 0, 15, 21, 6, 156, 0, 57, 21, 9]
abbrev dktX2_sure_2 : List UInt8 := dkwX2_sure_2 ++ dktX2_sure_3
def dkwX2_sure_1 : List UInt8 := [54, 4, 2, 54, 5, 2, 54, 6, 2, 54, 7, 2, 54, 8, 3, 54, 9, 21, 9, 42, 180, 1, 101]
abbrev dktX2_sure_1 : List UInt8 := dkwX2_sure_1 ++ dktX2_sure_2
def dkwX2_sure_0 : List UInt8 := [29, 3, 7, 184, 0, 176, 153, 0, 13, 42, 27, 28, 3, 182, 1, 190, 154, 0, 6, 16, 254, 172, 3]
abbrev dktX2_sure_0 : List UInt8 := dkwX2_sure_0 ++ dktX2_sure_1
theorem dksX2_sure_0 : cX2_sure.data.toList.drop 0 = dktX2_sure_0 := by decide +kernel
theorem dksX2_sure_1 : cX2_sure.data.toList.drop 23 = dktX2_sure_1 := dk_seg dksX2_sure_0 23 rfl rfl
theorem dksX2_sure_2 : cX2_sure.data.toList.drop 46 = dktX2_sure_2 := dk_seg dksX2_sure_1 23 rfl rfl
theorem dksX2_sure_3 : cX2_sure.data.toList.drop 69 = dktX2_sure_3 := dk_seg dksX2_sure_2 23 rfl rfl
theorem dksX2_sure_4 : cX2_sure.data.toList.drop 92 = dktX2_sure_4 := dk_seg dksX2_sure_3 23 rfl rfl
theorem dksX2_sure_5 : cX2_sure.data.toList.drop 116 = dktX2_sure_5 := dk_seg dksX2_sure_4 24 rfl rfl
theorem dksX2_sure_6 : cX2_sure.data.toList.drop 138 = dktX2_sure_6 := dk_seg dksX2_sure_5 22 rfl rfl
theorem dksX2_sure_7 : cX2_sure.data.toList.drop 161 = dktX2_sure_7 := dk_seg dksX2_sure_6 23 rfl rfl
theorem dX2_sure_0 : decode cX2_sure 0 = .ok (.iload_n 3, 1) := dk_29 (dk_at dksX2_sure_0 0 rfl rfl)
theorem dX2_sure_1 : decode cX2_sure 1 = .ok (.iconst 0, 1) := dk_3 (dk_at dksX2_sure_0 1 rfl rfl)
theorem dX2_sure_2 : decode cX2_sure 2 = .ok (.iconst 4, 1) := dk_7 (dk_at dksX2_sure_0 2 rfl rfl)
theorem dX2_sure_3 : decode cX2_sure 3 = .ok (.invokestatic 176, 3) := dk_184 0 176 (dk_at dksX2_sure_0 3 rfl rfl)
theorem dX2_sure_6 : decode cX2_sure 6 = .ok (.ifCond .eq 13, 3) := dk_153 0 13 (dk_at dksX2_sure_0 6 rfl rfl)
theorem dX2_sure_9 : decode cX2_sure 9 = .ok (.aload_n 0, 1) := dk_42 (dk_at dksX2_sure_0 9 rfl rfl)
theorem dX2_sure_10 : decode cX2_sure 10 = .ok (.iload_n 1, 1) := dk_27 (dk_at dksX2_sure_0 10 rfl rfl)
theorem dX2_sure_11 : decode cX2_sure 11 = .ok (.iload_n 2, 1) := dk_28 (dk_at dksX2_sure_0 11 rfl rfl)
theorem dX2_sure_12 : decode cX2_sure 12 = .ok (.iconst 0, 1) := dk_3 (dk_at dksX2_sure_0 12 rfl rfl)
theorem dX2_sure_13 : decode cX2_sure 13 = .ok (.invokevirtual 446, 3) := dk_182 1 190 (dk_at dksX2_sure_0 13 rfl rfl)
theorem dX2_sure_16 : decode cX2_sure 16 = .ok (.ifCond .ne 6, 3) := dk_154 0 6 (dk_at dksX2_sure_0 16 rfl rfl)
theorem dX2_sure_19 : decode cX2_sure 19 = .ok (.bipush (-2), 2) := dk_16 254 (dk_at dksX2_sure_0 19 rfl rfl)
theorem dX2_sure_21 : decode cX2_sure 21 = .ok (.ireturn, 1) := dk_172 (dk_at dksX2_sure_0 21 rfl rfl)
theorem dX2_sure_22 : decode cX2_sure 22 = .ok (.iconst 0, 1) := dk_3 (dk_at dksX2_sure_0 22 rfl rfl)
theorem dX2_sure_23 : decode cX2_sure 23 = .ok (.istore 4, 2) := dk_54 4 (dk_at dksX2_sure_1 0 rfl rfl)
theorem dX2_sure_25 : decode cX2_sure 25 = .ok (.iconst (-1), 1) := dk_2 (dk_at dksX2_sure_1 2 rfl rfl)
theorem dX2_sure_26 : decode cX2_sure 26 = .ok (.istore 5, 2) := dk_54 5 (dk_at dksX2_sure_1 3 rfl rfl)
theorem dX2_sure_28 : decode cX2_sure 28 = .ok (.iconst (-1), 1) := dk_2 (dk_at dksX2_sure_1 5 rfl rfl)
theorem dX2_sure_29 : decode cX2_sure 29 = .ok (.istore 6, 2) := dk_54 6 (dk_at dksX2_sure_1 6 rfl rfl)
theorem dX2_sure_31 : decode cX2_sure 31 = .ok (.iconst (-1), 1) := dk_2 (dk_at dksX2_sure_1 8 rfl rfl)
theorem dX2_sure_32 : decode cX2_sure 32 = .ok (.istore 7, 2) := dk_54 7 (dk_at dksX2_sure_1 9 rfl rfl)
theorem dX2_sure_34 : decode cX2_sure 34 = .ok (.iconst (-1), 1) := dk_2 (dk_at dksX2_sure_1 11 rfl rfl)
theorem dX2_sure_35 : decode cX2_sure 35 = .ok (.istore 8, 2) := dk_54 8 (dk_at dksX2_sure_1 12 rfl rfl)
theorem dX2_sure_37 : decode cX2_sure 37 = .ok (.iconst 0, 1) := dk_3 (dk_at dksX2_sure_1 14 rfl rfl)
theorem dX2_sure_38 : decode cX2_sure 38 = .ok (.istore 9, 2) := dk_54 9 (dk_at dksX2_sure_1 15 rfl rfl)
theorem dX2_sure_40 : decode cX2_sure 40 = .ok (.iload 9, 2) := dk_21 9 (dk_at dksX2_sure_1 17 rfl rfl)
theorem dX2_sure_42 : decode cX2_sure 42 = .ok (.aload_n 0, 1) := dk_42 (dk_at dksX2_sure_1 19 rfl rfl)
theorem dX2_sure_43 : decode cX2_sure 43 = .ok (.getfield 357, 3) := dk_180 1 101 (dk_at dksX2_sure_1 20 rfl rfl)
theorem dX2_sure_46 : decode cX2_sure 46 = .ok (.if_icmp .ge 81, 3) := dk_162 0 81 (dk_at dksX2_sure_2 0 rfl rfl)
theorem dX2_sure_49 : decode cX2_sure 49 = .ok (.aload_n 0, 1) := dk_42 (dk_at dksX2_sure_2 3 rfl rfl)
theorem dX2_sure_50 : decode cX2_sure 50 = .ok (.iload 9, 2) := dk_21 9 (dk_at dksX2_sure_2 4 rfl rfl)
theorem dX2_sure_52 : decode cX2_sure 52 = .ok (.invokevirtual 431, 3) := dk_182 1 175 (dk_at dksX2_sure_2 6 rfl rfl)
theorem dX2_sure_55 : decode cX2_sure 55 = .ok (.aload_n 0, 1) := dk_42 (dk_at dksX2_sure_2 9 rfl rfl)
theorem dX2_sure_56 : decode cX2_sure 56 = .ok (.getfield 381, 3) := dk_180 1 125 (dk_at dksX2_sure_2 10 rfl rfl)
theorem dX2_sure_59 : decode cX2_sure 59 = .ok (.ifCond .ne 15, 3) := dk_154 0 15 (dk_at dksX2_sure_2 13 rfl rfl)
theorem dX2_sure_62 : decode cX2_sure 62 = .ok (.iload 6, 2) := dk_21 6 (dk_at dksX2_sure_2 16 rfl rfl)
theorem dX2_sure_64 : decode cX2_sure 64 = .ok (.ifCond .ge 57, 3) := dk_156 0 57 (dk_at dksX2_sure_2 18 rfl rfl)
theorem dX2_sure_67 : decode cX2_sure 67 = .ok (.iload 9, 2) := dk_21 9 (dk_at dksX2_sure_2 21 rfl rfl)
theorem dX2_sure_69 : decode cX2_sure 69 = .ok (.istore 6, 2) := dk_54 6 (dk_at dksX2_sure_3 0 rfl rfl)
theorem dX2_sure_71 : decode cX2_sure 71 = .ok (.goto 50, 3) := dk_167 0 50 (dk_at dksX2_sure_3 2 rfl rfl)
theorem dX2_sure_74 : decode cX2_sure 74 = .ok (.iinc 4 1, 3) := dk_132 4 1 (dk_at dksX2_sure_3 5 rfl rfl)
theorem dX2_sure_77 : decode cX2_sure 77 = .ok (.iload 5, 2) := dk_21 5 (dk_at dksX2_sure_3 8 rfl rfl)
theorem dX2_sure_79 : decode cX2_sure 79 = .ok (.ifCond .ge 7, 3) := dk_156 0 7 (dk_at dksX2_sure_3 10 rfl rfl)
theorem dX2_sure_82 : decode cX2_sure 82 = .ok (.iload 9, 2) := dk_21 9 (dk_at dksX2_sure_3 13 rfl rfl)
theorem dX2_sure_84 : decode cX2_sure 84 = .ok (.istore 5, 2) := dk_54 5 (dk_at dksX2_sure_3 15 rfl rfl)
theorem dX2_sure_86 : decode cX2_sure 86 = .ok (.iload 7, 2) := dk_21 7 (dk_at dksX2_sure_3 17 rfl rfl)
theorem dX2_sure_88 : decode cX2_sure 88 = .ok (.ifCond .lt 12, 3) := dk_155 0 12 (dk_at dksX2_sure_3 19 rfl rfl)
theorem dX2_sure_91 : decode cX2_sure 91 = .ok (.aload_n 0, 1) := dk_42 (dk_at dksX2_sure_3 22 rfl rfl)
theorem dX2_sure_92 : decode cX2_sure 92 = .ok (.getfield 384, 3) := dk_180 1 128 (dk_at dksX2_sure_4 0 rfl rfl)
theorem dX2_sure_95 : decode cX2_sure 95 = .ok (.iload 7, 2) := dk_21 7 (dk_at dksX2_sure_4 3 rfl rfl)
theorem dX2_sure_97 : decode cX2_sure 97 = .ok (.if_icmp .ge 9, 3) := dk_162 0 9 (dk_at dksX2_sure_4 5 rfl rfl)
theorem dX2_sure_100 : decode cX2_sure 100 = .ok (.aload_n 0, 1) := dk_42 (dk_at dksX2_sure_4 8 rfl rfl)
theorem dX2_sure_101 : decode cX2_sure 101 = .ok (.getfield 384, 3) := dk_180 1 128 (dk_at dksX2_sure_4 9 rfl rfl)
theorem dX2_sure_104 : decode cX2_sure 104 = .ok (.istore 7, 2) := dk_54 7 (dk_at dksX2_sure_4 12 rfl rfl)
theorem dX2_sure_106 : decode cX2_sure 106 = .ok (.aload_n 0, 1) := dk_42 (dk_at dksX2_sure_4 14 rfl rfl)
theorem dX2_sure_107 : decode cX2_sure 107 = .ok (.getfield 384, 3) := dk_180 1 128 (dk_at dksX2_sure_4 15 rfl rfl)
theorem dX2_sure_110 : decode cX2_sure 110 = .ok (.iload 8, 2) := dk_21 8 (dk_at dksX2_sure_4 18 rfl rfl)
theorem dX2_sure_112 : decode cX2_sure 112 = .ok (.if_icmp .le 9, 3) := dk_164 0 9 (dk_at dksX2_sure_4 20 rfl rfl)
theorem dX2_sure_115 : decode cX2_sure 115 = .ok (.aload_n 0, 1) := dk_42 (dk_at dksX2_sure_4 23 rfl rfl)
theorem dX2_sure_116 : decode cX2_sure 116 = .ok (.getfield 384, 3) := dk_180 1 128 (dk_at dksX2_sure_5 0 rfl rfl)
theorem dX2_sure_119 : decode cX2_sure 119 = .ok (.istore 8, 2) := dk_54 8 (dk_at dksX2_sure_5 3 rfl rfl)
theorem dX2_sure_121 : decode cX2_sure 121 = .ok (.iinc 9 1, 3) := dk_132 9 1 (dk_at dksX2_sure_5 5 rfl rfl)
theorem dX2_sure_124 : decode cX2_sure 124 = .ok (.goto (-84), 3) := dk_167 255 172 (dk_at dksX2_sure_5 8 rfl rfl)
theorem dX2_sure_127 : decode cX2_sure 127 = .ok (.iload_n 3, 1) := dk_29 (dk_at dksX2_sure_5 11 rfl rfl)
theorem dX2_sure_128 : decode cX2_sure 128 = .ok (.ifCond .ne 8, 3) := dk_154 0 8 (dk_at dksX2_sure_5 12 rfl rfl)
theorem dX2_sure_131 : decode cX2_sure 131 = .ok (.iload 4, 2) := dk_21 4 (dk_at dksX2_sure_5 15 rfl rfl)
theorem dX2_sure_133 : decode cX2_sure 133 = .ok (.goto 35, 3) := dk_167 0 35 (dk_at dksX2_sure_5 17 rfl rfl)
theorem dX2_sure_136 : decode cX2_sure 136 = .ok (.iload_n 3, 1) := dk_29 (dk_at dksX2_sure_5 20 rfl rfl)
theorem dX2_sure_137 : decode cX2_sure 137 = .ok (.iconst 1, 1) := dk_4 (dk_at dksX2_sure_5 21 rfl rfl)
theorem dX2_sure_138 : decode cX2_sure 138 = .ok (.if_icmp .ne 8, 3) := dk_160 0 8 (dk_at dksX2_sure_6 0 rfl rfl)
theorem dX2_sure_141 : decode cX2_sure 141 = .ok (.iload 5, 2) := dk_21 5 (dk_at dksX2_sure_6 3 rfl rfl)
theorem dX2_sure_143 : decode cX2_sure 143 = .ok (.goto 25, 3) := dk_167 0 25 (dk_at dksX2_sure_6 5 rfl rfl)
theorem dX2_sure_146 : decode cX2_sure 146 = .ok (.iload_n 3, 1) := dk_29 (dk_at dksX2_sure_6 8 rfl rfl)
theorem dX2_sure_147 : decode cX2_sure 147 = .ok (.iconst 2, 1) := dk_5 (dk_at dksX2_sure_6 9 rfl rfl)
theorem dX2_sure_148 : decode cX2_sure 148 = .ok (.if_icmp .ne 8, 3) := dk_160 0 8 (dk_at dksX2_sure_6 10 rfl rfl)
theorem dX2_sure_151 : decode cX2_sure 151 = .ok (.iload 6, 2) := dk_21 6 (dk_at dksX2_sure_6 13 rfl rfl)
theorem dX2_sure_153 : decode cX2_sure 153 = .ok (.goto 15, 3) := dk_167 0 15 (dk_at dksX2_sure_6 15 rfl rfl)
theorem dX2_sure_156 : decode cX2_sure 156 = .ok (.iload_n 3, 1) := dk_29 (dk_at dksX2_sure_6 18 rfl rfl)
theorem dX2_sure_157 : decode cX2_sure 157 = .ok (.iconst 3, 1) := dk_6 (dk_at dksX2_sure_6 19 rfl rfl)
theorem dX2_sure_158 : decode cX2_sure 158 = .ok (.if_icmp .ne 8, 3) := dk_160 0 8 (dk_at dksX2_sure_6 20 rfl rfl)
theorem dX2_sure_161 : decode cX2_sure 161 = .ok (.iload 7, 2) := dk_21 7 (dk_at dksX2_sure_7 0 rfl rfl)
theorem dX2_sure_163 : decode cX2_sure 163 = .ok (.goto 5, 3) := dk_167 0 5 (dk_at dksX2_sure_7 2 rfl rfl)
theorem dX2_sure_166 : decode cX2_sure 166 = .ok (.iload 8, 2) := dk_21 8 (dk_at dksX2_sure_7 5 rfl rfl)
theorem dX2_sure_168 : decode cX2_sure 168 = .ok (.ireturn, 1) := dk_172 (dk_at dksX2_sure_7 7 rfl rfl)
abbrev cX2_hang : ByteArray := prog_23_method_73_code
def yX2_hang : MethodName := ⟨RX2, "hang", "(II)I"⟩
def dkwX2_hang_4 : List UInt8 := [21, 4, 62, 132, 4, 1, 167, 255, 214, 29, 172]
abbrev dktX2_hang_4 : List UInt8 := dkwX2_hang_4 ++ []
def dkwX2_hang_3 : List UInt8 := [155, 0, 15, 21, 4, 184, 1, 199, 29, 184, 1, 199, 162, 0, 15, 42, 21, 4, 182, 1, 202, 153, 0, 6]
abbrev dktX2_hang_3 : List UInt8 := dkwX2_hang_3 ++ dktX2_hang_4
def dkwX2_hang_2 : List UInt8 := [132, 3, 1, 167, 255, 230, 2, 62, 3, 54, 4, 21, 4, 4, 42, 180, 1, 98, 120, 162, 0, 37, 29]
abbrev dktX2_hang_2 : List UInt8 := dkwX2_hang_2 ++ dktX2_hang_3
def dkwX2_hang_1 : List UInt8 := [29, 42, 180, 1, 101, 162, 0, 24, 42, 29, 182, 1, 175, 42, 180, 0, 136, 29, 42, 180, 1, 125, 84]
abbrev dktX2_hang_1 : List UInt8 := dkwX2_hang_1 ++ dktX2_hang_2
def dkwX2_hang_0 : List UInt8 := [42, 27, 28, 3, 182, 1, 190, 153, 0, 12, 42, 180, 1, 98, 16, 12, 164, 0, 6, 16, 254, 172, 3, 62]
abbrev dktX2_hang_0 : List UInt8 := dkwX2_hang_0 ++ dktX2_hang_1
theorem dksX2_hang_0 : cX2_hang.data.toList.drop 0 = dktX2_hang_0 := by decide +kernel
theorem dksX2_hang_1 : cX2_hang.data.toList.drop 24 = dktX2_hang_1 := dk_seg dksX2_hang_0 24 rfl rfl
theorem dksX2_hang_2 : cX2_hang.data.toList.drop 47 = dktX2_hang_2 := dk_seg dksX2_hang_1 23 rfl rfl
theorem dksX2_hang_3 : cX2_hang.data.toList.drop 70 = dktX2_hang_3 := dk_seg dksX2_hang_2 23 rfl rfl
theorem dksX2_hang_4 : cX2_hang.data.toList.drop 94 = dktX2_hang_4 := dk_seg dksX2_hang_3 24 rfl rfl
theorem dX2_hang_0 : decode cX2_hang 0 = .ok (.aload_n 0, 1) := dk_42 (dk_at dksX2_hang_0 0 rfl rfl)
theorem dX2_hang_1 : decode cX2_hang 1 = .ok (.iload_n 1, 1) := dk_27 (dk_at dksX2_hang_0 1 rfl rfl)
theorem dX2_hang_2 : decode cX2_hang 2 = .ok (.iload_n 2, 1) := dk_28 (dk_at dksX2_hang_0 2 rfl rfl)
theorem dX2_hang_3 : decode cX2_hang 3 = .ok (.iconst 0, 1) := dk_3 (dk_at dksX2_hang_0 3 rfl rfl)
theorem dX2_hang_4 : decode cX2_hang 4 = .ok (.invokevirtual 446, 3) := dk_182 1 190 (dk_at dksX2_hang_0 4 rfl rfl)
theorem dX2_hang_7 : decode cX2_hang 7 = .ok (.ifCond .eq 12, 3) := dk_153 0 12 (dk_at dksX2_hang_0 7 rfl rfl)
theorem dX2_hang_10 : decode cX2_hang 10 = .ok (.aload_n 0, 1) := dk_42 (dk_at dksX2_hang_0 10 rfl rfl)
theorem dX2_hang_11 : decode cX2_hang 11 = .ok (.getfield 354, 3) := dk_180 1 98 (dk_at dksX2_hang_0 11 rfl rfl)
theorem dX2_hang_14 : decode cX2_hang 14 = .ok (.bipush 12, 2) := dk_16 12 (dk_at dksX2_hang_0 14 rfl rfl)
theorem dX2_hang_16 : decode cX2_hang 16 = .ok (.if_icmp .le 6, 3) := dk_164 0 6 (dk_at dksX2_hang_0 16 rfl rfl)
theorem dX2_hang_19 : decode cX2_hang 19 = .ok (.bipush (-2), 2) := dk_16 254 (dk_at dksX2_hang_0 19 rfl rfl)
theorem dX2_hang_21 : decode cX2_hang 21 = .ok (.ireturn, 1) := dk_172 (dk_at dksX2_hang_0 21 rfl rfl)
theorem dX2_hang_22 : decode cX2_hang 22 = .ok (.iconst 0, 1) := dk_3 (dk_at dksX2_hang_0 22 rfl rfl)
theorem dX2_hang_23 : decode cX2_hang 23 = .ok (.istore_n 3, 1) := dk_62 (dk_at dksX2_hang_0 23 rfl rfl)
theorem dX2_hang_24 : decode cX2_hang 24 = .ok (.iload_n 3, 1) := dk_29 (dk_at dksX2_hang_1 0 rfl rfl)
theorem dX2_hang_25 : decode cX2_hang 25 = .ok (.aload_n 0, 1) := dk_42 (dk_at dksX2_hang_1 1 rfl rfl)
theorem dX2_hang_26 : decode cX2_hang 26 = .ok (.getfield 357, 3) := dk_180 1 101 (dk_at dksX2_hang_1 2 rfl rfl)
theorem dX2_hang_29 : decode cX2_hang 29 = .ok (.if_icmp .ge 24, 3) := dk_162 0 24 (dk_at dksX2_hang_1 5 rfl rfl)
theorem dX2_hang_32 : decode cX2_hang 32 = .ok (.aload_n 0, 1) := dk_42 (dk_at dksX2_hang_1 8 rfl rfl)
theorem dX2_hang_33 : decode cX2_hang 33 = .ok (.iload_n 3, 1) := dk_29 (dk_at dksX2_hang_1 9 rfl rfl)
theorem dX2_hang_34 : decode cX2_hang 34 = .ok (.invokevirtual 431, 3) := dk_182 1 175 (dk_at dksX2_hang_1 10 rfl rfl)
theorem dX2_hang_37 : decode cX2_hang 37 = .ok (.aload_n 0, 1) := dk_42 (dk_at dksX2_hang_1 13 rfl rfl)
theorem dX2_hang_38 : decode cX2_hang 38 = .ok (.getfield 136, 3) := dk_180 0 136 (dk_at dksX2_hang_1 14 rfl rfl)
theorem dX2_hang_41 : decode cX2_hang 41 = .ok (.iload_n 3, 1) := dk_29 (dk_at dksX2_hang_1 17 rfl rfl)
theorem dX2_hang_42 : decode cX2_hang 42 = .ok (.aload_n 0, 1) := dk_42 (dk_at dksX2_hang_1 18 rfl rfl)
theorem dX2_hang_43 : decode cX2_hang 43 = .ok (.getfield 381, 3) := dk_180 1 125 (dk_at dksX2_hang_1 19 rfl rfl)
theorem dX2_hang_46 : decode cX2_hang 46 = .ok (.bastore, 1) := dk_84 (dk_at dksX2_hang_1 22 rfl rfl)
theorem dX2_hang_47 : decode cX2_hang 47 = .ok (.iinc 3 1, 3) := dk_132 3 1 (dk_at dksX2_hang_2 0 rfl rfl)
theorem dX2_hang_50 : decode cX2_hang 50 = .ok (.goto (-26), 3) := dk_167 255 230 (dk_at dksX2_hang_2 3 rfl rfl)
theorem dX2_hang_53 : decode cX2_hang 53 = .ok (.iconst (-1), 1) := dk_2 (dk_at dksX2_hang_2 6 rfl rfl)
theorem dX2_hang_54 : decode cX2_hang 54 = .ok (.istore_n 3, 1) := dk_62 (dk_at dksX2_hang_2 7 rfl rfl)
theorem dX2_hang_55 : decode cX2_hang 55 = .ok (.iconst 0, 1) := dk_3 (dk_at dksX2_hang_2 8 rfl rfl)
theorem dX2_hang_56 : decode cX2_hang 56 = .ok (.istore 4, 2) := dk_54 4 (dk_at dksX2_hang_2 9 rfl rfl)
theorem dX2_hang_58 : decode cX2_hang 58 = .ok (.iload 4, 2) := dk_21 4 (dk_at dksX2_hang_2 11 rfl rfl)
theorem dX2_hang_60 : decode cX2_hang 60 = .ok (.iconst 1, 1) := dk_4 (dk_at dksX2_hang_2 13 rfl rfl)
theorem dX2_hang_61 : decode cX2_hang 61 = .ok (.aload_n 0, 1) := dk_42 (dk_at dksX2_hang_2 14 rfl rfl)
theorem dX2_hang_62 : decode cX2_hang 62 = .ok (.getfield 354, 3) := dk_180 1 98 (dk_at dksX2_hang_2 15 rfl rfl)
theorem dX2_hang_65 : decode cX2_hang 65 = .ok (.ishl, 1) := dk_120 (dk_at dksX2_hang_2 18 rfl rfl)
theorem dX2_hang_66 : decode cX2_hang 66 = .ok (.if_icmp .ge 37, 3) := dk_162 0 37 (dk_at dksX2_hang_2 19 rfl rfl)
theorem dX2_hang_69 : decode cX2_hang 69 = .ok (.iload_n 3, 1) := dk_29 (dk_at dksX2_hang_2 22 rfl rfl)
theorem dX2_hang_70 : decode cX2_hang 70 = .ok (.ifCond .lt 15, 3) := dk_155 0 15 (dk_at dksX2_hang_3 0 rfl rfl)
theorem dX2_hang_73 : decode cX2_hang 73 = .ok (.iload 4, 2) := dk_21 4 (dk_at dksX2_hang_3 3 rfl rfl)
theorem dX2_hang_75 : decode cX2_hang 75 = .ok (.invokestatic 455, 3) := dk_184 1 199 (dk_at dksX2_hang_3 5 rfl rfl)
theorem dX2_hang_78 : decode cX2_hang 78 = .ok (.iload_n 3, 1) := dk_29 (dk_at dksX2_hang_3 8 rfl rfl)
theorem dX2_hang_79 : decode cX2_hang 79 = .ok (.invokestatic 455, 3) := dk_184 1 199 (dk_at dksX2_hang_3 9 rfl rfl)
theorem dX2_hang_82 : decode cX2_hang 82 = .ok (.if_icmp .ge 15, 3) := dk_162 0 15 (dk_at dksX2_hang_3 12 rfl rfl)
theorem dX2_hang_85 : decode cX2_hang 85 = .ok (.aload_n 0, 1) := dk_42 (dk_at dksX2_hang_3 15 rfl rfl)
theorem dX2_hang_86 : decode cX2_hang 86 = .ok (.iload 4, 2) := dk_21 4 (dk_at dksX2_hang_3 16 rfl rfl)
theorem dX2_hang_88 : decode cX2_hang 88 = .ok (.invokevirtual 458, 3) := dk_182 1 202 (dk_at dksX2_hang_3 18 rfl rfl)
theorem dX2_hang_91 : decode cX2_hang 91 = .ok (.ifCond .eq 6, 3) := dk_153 0 6 (dk_at dksX2_hang_3 21 rfl rfl)
theorem dX2_hang_94 : decode cX2_hang 94 = .ok (.iload 4, 2) := dk_21 4 (dk_at dksX2_hang_4 0 rfl rfl)
theorem dX2_hang_96 : decode cX2_hang 96 = .ok (.istore_n 3, 1) := dk_62 (dk_at dksX2_hang_4 2 rfl rfl)
theorem dX2_hang_97 : decode cX2_hang 97 = .ok (.iinc 4 1, 3) := dk_132 4 1 (dk_at dksX2_hang_4 3 rfl rfl)
theorem dX2_hang_100 : decode cX2_hang 100 = .ok (.goto (-42), 3) := dk_167 255 214 (dk_at dksX2_hang_4 6 rfl rfl)
theorem dX2_hang_103 : decode cX2_hang 103 = .ok (.iload_n 3, 1) := dk_29 (dk_at dksX2_hang_4 9 rfl rfl)
theorem dX2_hang_104 : decode cX2_hang 104 = .ok (.ireturn, 1) := dk_172 (dk_at dksX2_hang_4 10 rfl rfl)
abbrev cX2_bitsOf : ByteArray := prog_23_method_70_code
def yX2_bitsOf : MethodName := ⟨RX2, "bitsOf", "(I)I"⟩
def dkwX2_bitsOf_1 : List UInt8 := [27, 172]
abbrev dktX2_bitsOf_1 : List UInt8 := dkwX2_bitsOf_1 ++ []
def dkwX2_bitsOf_0 : List UInt8 := [3, 60, 3, 61, 28, 16, 16, 162, 0, 17, 27, 26, 28, 122, 4, 126, 96, 60, 132, 2, 1, 167, 255, 239]
abbrev dktX2_bitsOf_0 : List UInt8 := dkwX2_bitsOf_0 ++ dktX2_bitsOf_1
theorem dksX2_bitsOf_0 : cX2_bitsOf.data.toList.drop 0 = dktX2_bitsOf_0 := by decide +kernel
theorem dksX2_bitsOf_1 : cX2_bitsOf.data.toList.drop 24 = dktX2_bitsOf_1 := dk_seg dksX2_bitsOf_0 24 rfl rfl
theorem dX2_bitsOf_0 : decode cX2_bitsOf 0 = .ok (.iconst 0, 1) := dk_3 (dk_at dksX2_bitsOf_0 0 rfl rfl)
theorem dX2_bitsOf_1 : decode cX2_bitsOf 1 = .ok (.istore_n 1, 1) := dk_60 (dk_at dksX2_bitsOf_0 1 rfl rfl)
theorem dX2_bitsOf_2 : decode cX2_bitsOf 2 = .ok (.iconst 0, 1) := dk_3 (dk_at dksX2_bitsOf_0 2 rfl rfl)
theorem dX2_bitsOf_3 : decode cX2_bitsOf 3 = .ok (.istore_n 2, 1) := dk_61 (dk_at dksX2_bitsOf_0 3 rfl rfl)
theorem dX2_bitsOf_4 : decode cX2_bitsOf 4 = .ok (.iload_n 2, 1) := dk_28 (dk_at dksX2_bitsOf_0 4 rfl rfl)
theorem dX2_bitsOf_5 : decode cX2_bitsOf 5 = .ok (.bipush 16, 2) := dk_16 16 (dk_at dksX2_bitsOf_0 5 rfl rfl)
theorem dX2_bitsOf_7 : decode cX2_bitsOf 7 = .ok (.if_icmp .ge 17, 3) := dk_162 0 17 (dk_at dksX2_bitsOf_0 7 rfl rfl)
theorem dX2_bitsOf_10 : decode cX2_bitsOf 10 = .ok (.iload_n 1, 1) := dk_27 (dk_at dksX2_bitsOf_0 10 rfl rfl)
theorem dX2_bitsOf_11 : decode cX2_bitsOf 11 = .ok (.iload_n 0, 1) := dk_26 (dk_at dksX2_bitsOf_0 11 rfl rfl)
theorem dX2_bitsOf_12 : decode cX2_bitsOf 12 = .ok (.iload_n 2, 1) := dk_28 (dk_at dksX2_bitsOf_0 12 rfl rfl)
theorem dX2_bitsOf_13 : decode cX2_bitsOf 13 = .ok (.ishr, 1) := dk_122 (dk_at dksX2_bitsOf_0 13 rfl rfl)
theorem dX2_bitsOf_14 : decode cX2_bitsOf 14 = .ok (.iconst 1, 1) := dk_4 (dk_at dksX2_bitsOf_0 14 rfl rfl)
theorem dX2_bitsOf_15 : decode cX2_bitsOf 15 = .ok (.iand, 1) := dk_126 (dk_at dksX2_bitsOf_0 15 rfl rfl)
theorem dX2_bitsOf_16 : decode cX2_bitsOf 16 = .ok (.iadd, 1) := dk_96 (dk_at dksX2_bitsOf_0 16 rfl rfl)
theorem dX2_bitsOf_17 : decode cX2_bitsOf 17 = .ok (.istore_n 1, 1) := dk_60 (dk_at dksX2_bitsOf_0 17 rfl rfl)
theorem dX2_bitsOf_18 : decode cX2_bitsOf 18 = .ok (.iinc 2 1, 3) := dk_132 2 1 (dk_at dksX2_bitsOf_0 18 rfl rfl)
theorem dX2_bitsOf_21 : decode cX2_bitsOf 21 = .ok (.goto (-17), 3) := dk_167 255 239 (dk_at dksX2_bitsOf_0 21 rfl rfl)
theorem dX2_bitsOf_24 : decode cX2_bitsOf 24 = .ok (.iload_n 1, 1) := dk_27 (dk_at dksX2_bitsOf_1 0 rfl rfl)
theorem dX2_bitsOf_25 : decode cX2_bitsOf 25 = .ok (.ireturn, 1) := dk_172 (dk_at dksX2_bitsOf_1 1 rfl rfl)
abbrev cX2_tells : ByteArray := prog_23_method_72_code
def yX2_tells : MethodName := ⟨RX2, "tells", "(I)Z"⟩
def dkwX2_tells_3 : List UInt8 := [159, 0, 5, 3, 172, 42, 180, 0, 139, 29, 21, 4, 79, 132, 2, 1, 167, 255, 192, 4, 172]
abbrev dktX2_tells_3 : List UInt8 := dkwX2_tells_3 ++ []
def dkwX2_tells_2 : List UInt8 := [5, 167, 0, 4, 4, 54, 4, 42, 180, 0, 139, 29, 46, 158, 0, 16, 42, 180, 0, 139, 29, 46, 21, 4]
abbrev dktX2_tells_2 : List UInt8 := dkwX2_tells_2 ++ dktX2_tells_3
def dkwX2_tells_1 : List UInt8 := [28, 42, 180, 1, 101, 162, 0, 62, 42, 28, 27, 182, 1, 196, 62, 42, 180, 0, 136, 28, 51, 153, 0, 7]
abbrev dktX2_tells_1 : List UInt8 := dkwX2_tells_1 ++ dktX2_tells_2
def dkwX2_tells_0 : List UInt8 := [3, 61, 28, 17, 4, 0, 162, 0, 16, 42, 180, 0, 139, 28, 3, 79, 132, 2, 1, 167, 255, 239, 3, 61]
abbrev dktX2_tells_0 : List UInt8 := dkwX2_tells_0 ++ dktX2_tells_1
theorem dksX2_tells_0 : cX2_tells.data.toList.drop 0 = dktX2_tells_0 := by decide +kernel
theorem dksX2_tells_1 : cX2_tells.data.toList.drop 24 = dktX2_tells_1 := dk_seg dksX2_tells_0 24 rfl rfl
theorem dksX2_tells_2 : cX2_tells.data.toList.drop 48 = dktX2_tells_2 := dk_seg dksX2_tells_1 24 rfl rfl
theorem dksX2_tells_3 : cX2_tells.data.toList.drop 72 = dktX2_tells_3 := dk_seg dksX2_tells_2 24 rfl rfl
theorem dX2_tells_0 : decode cX2_tells 0 = .ok (.iconst 0, 1) := dk_3 (dk_at dksX2_tells_0 0 rfl rfl)
theorem dX2_tells_1 : decode cX2_tells 1 = .ok (.istore_n 2, 1) := dk_61 (dk_at dksX2_tells_0 1 rfl rfl)
theorem dX2_tells_2 : decode cX2_tells 2 = .ok (.iload_n 2, 1) := dk_28 (dk_at dksX2_tells_0 2 rfl rfl)
theorem dX2_tells_3 : decode cX2_tells 3 = .ok (.sipush 1024, 3) := dk_17 4 0 (dk_at dksX2_tells_0 3 rfl rfl)
theorem dX2_tells_6 : decode cX2_tells 6 = .ok (.if_icmp .ge 16, 3) := dk_162 0 16 (dk_at dksX2_tells_0 6 rfl rfl)
theorem dX2_tells_9 : decode cX2_tells 9 = .ok (.aload_n 0, 1) := dk_42 (dk_at dksX2_tells_0 9 rfl rfl)
theorem dX2_tells_10 : decode cX2_tells 10 = .ok (.getfield 139, 3) := dk_180 0 139 (dk_at dksX2_tells_0 10 rfl rfl)
theorem dX2_tells_13 : decode cX2_tells 13 = .ok (.iload_n 2, 1) := dk_28 (dk_at dksX2_tells_0 13 rfl rfl)
theorem dX2_tells_14 : decode cX2_tells 14 = .ok (.iconst 0, 1) := dk_3 (dk_at dksX2_tells_0 14 rfl rfl)
theorem dX2_tells_15 : decode cX2_tells 15 = .ok (.iastore, 1) := dk_79 (dk_at dksX2_tells_0 15 rfl rfl)
theorem dX2_tells_16 : decode cX2_tells 16 = .ok (.iinc 2 1, 3) := dk_132 2 1 (dk_at dksX2_tells_0 16 rfl rfl)
theorem dX2_tells_19 : decode cX2_tells 19 = .ok (.goto (-17), 3) := dk_167 255 239 (dk_at dksX2_tells_0 19 rfl rfl)
theorem dX2_tells_22 : decode cX2_tells 22 = .ok (.iconst 0, 1) := dk_3 (dk_at dksX2_tells_0 22 rfl rfl)
theorem dX2_tells_23 : decode cX2_tells 23 = .ok (.istore_n 2, 1) := dk_61 (dk_at dksX2_tells_0 23 rfl rfl)
theorem dX2_tells_24 : decode cX2_tells 24 = .ok (.iload_n 2, 1) := dk_28 (dk_at dksX2_tells_1 0 rfl rfl)
theorem dX2_tells_25 : decode cX2_tells 25 = .ok (.aload_n 0, 1) := dk_42 (dk_at dksX2_tells_1 1 rfl rfl)
theorem dX2_tells_26 : decode cX2_tells 26 = .ok (.getfield 357, 3) := dk_180 1 101 (dk_at dksX2_tells_1 2 rfl rfl)
theorem dX2_tells_29 : decode cX2_tells 29 = .ok (.if_icmp .ge 62, 3) := dk_162 0 62 (dk_at dksX2_tells_1 5 rfl rfl)
theorem dX2_tells_32 : decode cX2_tells 32 = .ok (.aload_n 0, 1) := dk_42 (dk_at dksX2_tells_1 8 rfl rfl)
theorem dX2_tells_33 : decode cX2_tells 33 = .ok (.iload_n 2, 1) := dk_28 (dk_at dksX2_tells_1 9 rfl rfl)
theorem dX2_tells_34 : decode cX2_tells 34 = .ok (.iload_n 1, 1) := dk_27 (dk_at dksX2_tells_1 10 rfl rfl)
theorem dX2_tells_35 : decode cX2_tells 35 = .ok (.invokevirtual 452, 3) := dk_182 1 196 (dk_at dksX2_tells_1 11 rfl rfl)
theorem dX2_tells_38 : decode cX2_tells 38 = .ok (.istore_n 3, 1) := dk_62 (dk_at dksX2_tells_1 14 rfl rfl)
theorem dX2_tells_39 : decode cX2_tells 39 = .ok (.aload_n 0, 1) := dk_42 (dk_at dksX2_tells_1 15 rfl rfl)
theorem dX2_tells_40 : decode cX2_tells 40 = .ok (.getfield 136, 3) := dk_180 0 136 (dk_at dksX2_tells_1 16 rfl rfl)
theorem dX2_tells_43 : decode cX2_tells 43 = .ok (.iload_n 2, 1) := dk_28 (dk_at dksX2_tells_1 19 rfl rfl)
theorem dX2_tells_44 : decode cX2_tells 44 = .ok (.baload, 1) := dk_51 (dk_at dksX2_tells_1 20 rfl rfl)
theorem dX2_tells_45 : decode cX2_tells 45 = .ok (.ifCond .eq 7, 3) := dk_153 0 7 (dk_at dksX2_tells_1 21 rfl rfl)
theorem dX2_tells_48 : decode cX2_tells 48 = .ok (.iconst 2, 1) := dk_5 (dk_at dksX2_tells_2 0 rfl rfl)
theorem dX2_tells_49 : decode cX2_tells 49 = .ok (.goto 4, 3) := dk_167 0 4 (dk_at dksX2_tells_2 1 rfl rfl)
theorem dX2_tells_52 : decode cX2_tells 52 = .ok (.iconst 1, 1) := dk_4 (dk_at dksX2_tells_2 4 rfl rfl)
theorem dX2_tells_53 : decode cX2_tells 53 = .ok (.istore 4, 2) := dk_54 4 (dk_at dksX2_tells_2 5 rfl rfl)
theorem dX2_tells_55 : decode cX2_tells 55 = .ok (.aload_n 0, 1) := dk_42 (dk_at dksX2_tells_2 7 rfl rfl)
theorem dX2_tells_56 : decode cX2_tells 56 = .ok (.getfield 139, 3) := dk_180 0 139 (dk_at dksX2_tells_2 8 rfl rfl)
theorem dX2_tells_59 : decode cX2_tells 59 = .ok (.iload_n 3, 1) := dk_29 (dk_at dksX2_tells_2 11 rfl rfl)
theorem dX2_tells_60 : decode cX2_tells 60 = .ok (.iaload, 1) := dk_46 (dk_at dksX2_tells_2 12 rfl rfl)
theorem dX2_tells_61 : decode cX2_tells 61 = .ok (.ifCond .le 16, 3) := dk_158 0 16 (dk_at dksX2_tells_2 13 rfl rfl)
theorem dX2_tells_64 : decode cX2_tells 64 = .ok (.aload_n 0, 1) := dk_42 (dk_at dksX2_tells_2 16 rfl rfl)
theorem dX2_tells_65 : decode cX2_tells 65 = .ok (.getfield 139, 3) := dk_180 0 139 (dk_at dksX2_tells_2 17 rfl rfl)
theorem dX2_tells_68 : decode cX2_tells 68 = .ok (.iload_n 3, 1) := dk_29 (dk_at dksX2_tells_2 20 rfl rfl)
theorem dX2_tells_69 : decode cX2_tells 69 = .ok (.iaload, 1) := dk_46 (dk_at dksX2_tells_2 21 rfl rfl)
theorem dX2_tells_70 : decode cX2_tells 70 = .ok (.iload 4, 2) := dk_21 4 (dk_at dksX2_tells_2 22 rfl rfl)
theorem dX2_tells_72 : decode cX2_tells 72 = .ok (.if_icmp .eq 5, 3) := dk_159 0 5 (dk_at dksX2_tells_3 0 rfl rfl)
theorem dX2_tells_75 : decode cX2_tells 75 = .ok (.iconst 0, 1) := dk_3 (dk_at dksX2_tells_3 3 rfl rfl)
theorem dX2_tells_76 : decode cX2_tells 76 = .ok (.ireturn, 1) := dk_172 (dk_at dksX2_tells_3 4 rfl rfl)
theorem dX2_tells_77 : decode cX2_tells 77 = .ok (.aload_n 0, 1) := dk_42 (dk_at dksX2_tells_3 5 rfl rfl)
theorem dX2_tells_78 : decode cX2_tells 78 = .ok (.getfield 139, 3) := dk_180 0 139 (dk_at dksX2_tells_3 6 rfl rfl)
theorem dX2_tells_81 : decode cX2_tells 81 = .ok (.iload_n 3, 1) := dk_29 (dk_at dksX2_tells_3 9 rfl rfl)
theorem dX2_tells_82 : decode cX2_tells 82 = .ok (.iload 4, 2) := dk_21 4 (dk_at dksX2_tells_3 10 rfl rfl)
theorem dX2_tells_84 : decode cX2_tells 84 = .ok (.iastore, 1) := dk_79 (dk_at dksX2_tells_3 12 rfl rfl)
theorem dX2_tells_85 : decode cX2_tells 85 = .ok (.iinc 2 1, 3) := dk_132 2 1 (dk_at dksX2_tells_3 13 rfl rfl)
theorem dX2_tells_88 : decode cX2_tells 88 = .ok (.goto (-64), 3) := dk_167 255 192 (dk_at dksX2_tells_3 16 rfl rfl)
theorem dX2_tells_91 : decode cX2_tells 91 = .ok (.iconst 1, 1) := dk_4 (dk_at dksX2_tells_3 19 rfl rfl)
theorem dX2_tells_92 : decode cX2_tells 92 = .ok (.ireturn, 1) := dk_172 (dk_at dksX2_tells_3 20 rfl rfl)
abbrev cX2_known : ByteArray := prog_23_method_71_code
def yX2_known : MethodName := ⟨RX2, "known", "(II)I"⟩
def dkwX2_known_3 : List UInt8 := [132, 6, 1, 167, 255, 195, 21, 4, 172]
abbrev dktX2_known_3 : List UInt8 := dkwX2_known_3 ++ []
def dkwX2_known_2 : List UInt8 := [21, 5, 42, 180, 0, 106, 21, 6, 46, 104, 54, 5, 29, 42, 180, 0, 106, 21, 6, 46, 108, 62]
abbrev dktX2_known_2 : List UInt8 := dkwX2_known_2 ++ dktX2_known_3
def dkwX2_known_1 : List UInt8 := [4, 126, 4, 160, 0, 32, 21, 4, 21, 5, 29, 42, 180, 0, 106, 21, 6, 46, 112, 104, 96, 54, 4]
abbrev dktX2_known_1 : List UInt8 := dkwX2_known_1 ++ dktX2_known_2
def dkwX2_known_0 : List UInt8 := [27, 62, 3, 54, 4, 4, 54, 5, 3, 54, 6, 21, 6, 42, 180, 1, 98, 162, 0, 58, 28, 21, 6, 122]
abbrev dktX2_known_0 : List UInt8 := dkwX2_known_0 ++ dktX2_known_1
theorem dksX2_known_0 : cX2_known.data.toList.drop 0 = dktX2_known_0 := by decide +kernel
theorem dksX2_known_1 : cX2_known.data.toList.drop 24 = dktX2_known_1 := dk_seg dksX2_known_0 24 rfl rfl
theorem dksX2_known_2 : cX2_known.data.toList.drop 47 = dktX2_known_2 := dk_seg dksX2_known_1 23 rfl rfl
theorem dksX2_known_3 : cX2_known.data.toList.drop 69 = dktX2_known_3 := dk_seg dksX2_known_2 22 rfl rfl
theorem dX2_known_0 : decode cX2_known 0 = .ok (.iload_n 1, 1) := dk_27 (dk_at dksX2_known_0 0 rfl rfl)
theorem dX2_known_1 : decode cX2_known 1 = .ok (.istore_n 3, 1) := dk_62 (dk_at dksX2_known_0 1 rfl rfl)
theorem dX2_known_2 : decode cX2_known 2 = .ok (.iconst 0, 1) := dk_3 (dk_at dksX2_known_0 2 rfl rfl)
theorem dX2_known_3 : decode cX2_known 3 = .ok (.istore 4, 2) := dk_54 4 (dk_at dksX2_known_0 3 rfl rfl)
theorem dX2_known_5 : decode cX2_known 5 = .ok (.iconst 1, 1) := dk_4 (dk_at dksX2_known_0 5 rfl rfl)
theorem dX2_known_6 : decode cX2_known 6 = .ok (.istore 5, 2) := dk_54 5 (dk_at dksX2_known_0 6 rfl rfl)
theorem dX2_known_8 : decode cX2_known 8 = .ok (.iconst 0, 1) := dk_3 (dk_at dksX2_known_0 8 rfl rfl)
theorem dX2_known_9 : decode cX2_known 9 = .ok (.istore 6, 2) := dk_54 6 (dk_at dksX2_known_0 9 rfl rfl)
theorem dX2_known_11 : decode cX2_known 11 = .ok (.iload 6, 2) := dk_21 6 (dk_at dksX2_known_0 11 rfl rfl)
theorem dX2_known_13 : decode cX2_known 13 = .ok (.aload_n 0, 1) := dk_42 (dk_at dksX2_known_0 13 rfl rfl)
theorem dX2_known_14 : decode cX2_known 14 = .ok (.getfield 354, 3) := dk_180 1 98 (dk_at dksX2_known_0 14 rfl rfl)
theorem dX2_known_17 : decode cX2_known 17 = .ok (.if_icmp .ge 58, 3) := dk_162 0 58 (dk_at dksX2_known_0 17 rfl rfl)
theorem dX2_known_20 : decode cX2_known 20 = .ok (.iload_n 2, 1) := dk_28 (dk_at dksX2_known_0 20 rfl rfl)
theorem dX2_known_21 : decode cX2_known 21 = .ok (.iload 6, 2) := dk_21 6 (dk_at dksX2_known_0 21 rfl rfl)
theorem dX2_known_23 : decode cX2_known 23 = .ok (.ishr, 1) := dk_122 (dk_at dksX2_known_0 23 rfl rfl)
theorem dX2_known_24 : decode cX2_known 24 = .ok (.iconst 1, 1) := dk_4 (dk_at dksX2_known_1 0 rfl rfl)
theorem dX2_known_25 : decode cX2_known 25 = .ok (.iand, 1) := dk_126 (dk_at dksX2_known_1 1 rfl rfl)
theorem dX2_known_26 : decode cX2_known 26 = .ok (.iconst 1, 1) := dk_4 (dk_at dksX2_known_1 2 rfl rfl)
theorem dX2_known_27 : decode cX2_known 27 = .ok (.if_icmp .ne 32, 3) := dk_160 0 32 (dk_at dksX2_known_1 3 rfl rfl)
theorem dX2_known_30 : decode cX2_known 30 = .ok (.iload 4, 2) := dk_21 4 (dk_at dksX2_known_1 6 rfl rfl)
theorem dX2_known_32 : decode cX2_known 32 = .ok (.iload 5, 2) := dk_21 5 (dk_at dksX2_known_1 8 rfl rfl)
theorem dX2_known_34 : decode cX2_known 34 = .ok (.iload_n 3, 1) := dk_29 (dk_at dksX2_known_1 10 rfl rfl)
theorem dX2_known_35 : decode cX2_known 35 = .ok (.aload_n 0, 1) := dk_42 (dk_at dksX2_known_1 11 rfl rfl)
theorem dX2_known_36 : decode cX2_known 36 = .ok (.getfield 106, 3) := dk_180 0 106 (dk_at dksX2_known_1 12 rfl rfl)
theorem dX2_known_39 : decode cX2_known 39 = .ok (.iload 6, 2) := dk_21 6 (dk_at dksX2_known_1 15 rfl rfl)
theorem dX2_known_41 : decode cX2_known 41 = .ok (.iaload, 1) := dk_46 (dk_at dksX2_known_1 17 rfl rfl)
theorem dX2_known_42 : decode cX2_known 42 = .ok (.irem, 1) := dk_112 (dk_at dksX2_known_1 18 rfl rfl)
theorem dX2_known_43 : decode cX2_known 43 = .ok (.imul, 1) := dk_104 (dk_at dksX2_known_1 19 rfl rfl)
theorem dX2_known_44 : decode cX2_known 44 = .ok (.iadd, 1) := dk_96 (dk_at dksX2_known_1 20 rfl rfl)
theorem dX2_known_45 : decode cX2_known 45 = .ok (.istore 4, 2) := dk_54 4 (dk_at dksX2_known_1 21 rfl rfl)
theorem dX2_known_47 : decode cX2_known 47 = .ok (.iload 5, 2) := dk_21 5 (dk_at dksX2_known_2 0 rfl rfl)
theorem dX2_known_49 : decode cX2_known 49 = .ok (.aload_n 0, 1) := dk_42 (dk_at dksX2_known_2 2 rfl rfl)
theorem dX2_known_50 : decode cX2_known 50 = .ok (.getfield 106, 3) := dk_180 0 106 (dk_at dksX2_known_2 3 rfl rfl)
theorem dX2_known_53 : decode cX2_known 53 = .ok (.iload 6, 2) := dk_21 6 (dk_at dksX2_known_2 6 rfl rfl)
theorem dX2_known_55 : decode cX2_known 55 = .ok (.iaload, 1) := dk_46 (dk_at dksX2_known_2 8 rfl rfl)
theorem dX2_known_56 : decode cX2_known 56 = .ok (.imul, 1) := dk_104 (dk_at dksX2_known_2 9 rfl rfl)
theorem dX2_known_57 : decode cX2_known 57 = .ok (.istore 5, 2) := dk_54 5 (dk_at dksX2_known_2 10 rfl rfl)
theorem dX2_known_59 : decode cX2_known 59 = .ok (.iload_n 3, 1) := dk_29 (dk_at dksX2_known_2 12 rfl rfl)
theorem dX2_known_60 : decode cX2_known 60 = .ok (.aload_n 0, 1) := dk_42 (dk_at dksX2_known_2 13 rfl rfl)
theorem dX2_known_61 : decode cX2_known 61 = .ok (.getfield 106, 3) := dk_180 0 106 (dk_at dksX2_known_2 14 rfl rfl)
theorem dX2_known_64 : decode cX2_known 64 = .ok (.iload 6, 2) := dk_21 6 (dk_at dksX2_known_2 17 rfl rfl)
theorem dX2_known_66 : decode cX2_known 66 = .ok (.iaload, 1) := dk_46 (dk_at dksX2_known_2 19 rfl rfl)
theorem dX2_known_67 : decode cX2_known 67 = .ok (.idiv, 1) := dk_108 (dk_at dksX2_known_2 20 rfl rfl)
theorem dX2_known_68 : decode cX2_known 68 = .ok (.istore_n 3, 1) := dk_62 (dk_at dksX2_known_2 21 rfl rfl)
theorem dX2_known_69 : decode cX2_known 69 = .ok (.iinc 6 1, 3) := dk_132 6 1 (dk_at dksX2_known_3 0 rfl rfl)
theorem dX2_known_72 : decode cX2_known 72 = .ok (.goto (-61), 3) := dk_167 255 195 (dk_at dksX2_known_3 3 rfl rfl)
theorem dX2_known_75 : decode cX2_known 75 = .ok (.iload 4, 2) := dk_21 4 (dk_at dksX2_known_3 6 rfl rfl)
theorem dX2_known_77 : decode cX2_known 77 = .ok (.ireturn, 1) := dk_172 (dk_at dksX2_known_3 8 rfl rfl)
abbrev cX2_bears : ByteArray := prog_23_method_74_code
def yX2_bears : MethodName := ⟨RX2, "bears", "(IIII)I"⟩
def dkwX2_bears_8 : List UInt8 := [42, 180, 0, 84, 42, 180, 1, 134, 46, 172]
abbrev dktX2_bears_8 : List UInt8 := dkwX2_bears_8 ++ []
def dkwX2_bears_7 : List UInt8 := [21, 5, 155, 0, 22, 21, 4, 21, 5, 161, 0, 15, 42, 180, 0, 87, 42, 180, 1, 134, 46, 167, 0, 12]
abbrev dktX2_bears_7 : List UInt8 := dkwX2_bears_7 ++ dktX2_bears_8
def dkwX2_bears_6 : List UInt8 := [167, 255, 166, 21, 5, 155, 0, 18, 21, 5, 42, 180, 1, 128, 162, 0, 9, 42, 180, 1, 128, 54, 5]
abbrev dktX2_bears_6 : List UInt8 := dkwX2_bears_6 ++ dktX2_bears_7
def dkwX2_bears_5 : List UInt8 := [21, 7, 155, 0, 19, 21, 5, 155, 0, 10, 21, 7, 21, 5, 162, 0, 7, 21, 7, 54, 5, 132, 6, 1]
abbrev dktX2_bears_5 : List UInt8 := dkwX2_bears_5 ++ dktX2_bears_6
def dkwX2_bears_4 : List UInt8 := [160, 0, 21, 42, 21, 6, 42, 180, 0, 66, 16, 12, 46, 4, 100, 182, 1, 107, 167, 0, 4, 2, 54, 7]
abbrev dktX2_bears_4 : List UInt8 := dkwX2_bears_4 ++ dktX2_bears_5
def dkwX2_bears_3 : List UInt8 := [42, 180, 0, 69, 21, 6, 46, 16, 7, 160, 0, 35, 42, 180, 0, 81, 21, 6, 46, 42, 180, 1, 134]
abbrev dktX2_bears_3 : List UInt8 := dkwX2_bears_3 ++ dktX2_bears_4
def dkwX2_bears_2 : List UInt8 := [54, 5, 3, 54, 6, 21, 6, 42, 180, 1, 95, 162, 0, 87, 42, 180, 0, 66, 16, 12, 46, 158, 0, 77]
abbrev dktX2_bears_2 : List UInt8 := dkwX2_bears_2 ++ dktX2_bears_3
def dkwX2_bears_1 : List UInt8 := [154, 0, 5, 2, 172, 42, 180, 0, 66, 16, 12, 46, 154, 0, 10, 42, 180, 1, 128, 167, 0, 4, 2]
abbrev dktX2_bears_1 : List UInt8 := dkwX2_bears_1 ++ dktX2_bears_2
def dkwX2_bears_0 : List UInt8 := [21, 4, 155, 0, 13, 42, 27, 28, 29, 182, 1, 190, 154, 0, 6, 16, 254, 172, 42, 180, 1, 125]
abbrev dktX2_bears_0 : List UInt8 := dkwX2_bears_0 ++ dktX2_bears_1
theorem dksX2_bears_0 : cX2_bears.data.toList.drop 0 = dktX2_bears_0 := by decide +kernel
theorem dksX2_bears_1 : cX2_bears.data.toList.drop 22 = dktX2_bears_1 := dk_seg dksX2_bears_0 22 rfl rfl
theorem dksX2_bears_2 : cX2_bears.data.toList.drop 45 = dktX2_bears_2 := dk_seg dksX2_bears_1 23 rfl rfl
theorem dksX2_bears_3 : cX2_bears.data.toList.drop 69 = dktX2_bears_3 := dk_seg dksX2_bears_2 24 rfl rfl
theorem dksX2_bears_4 : cX2_bears.data.toList.drop 92 = dktX2_bears_4 := dk_seg dksX2_bears_3 23 rfl rfl
theorem dksX2_bears_5 : cX2_bears.data.toList.drop 116 = dktX2_bears_5 := dk_seg dksX2_bears_4 24 rfl rfl
theorem dksX2_bears_6 : cX2_bears.data.toList.drop 140 = dktX2_bears_6 := dk_seg dksX2_bears_5 24 rfl rfl
theorem dksX2_bears_7 : cX2_bears.data.toList.drop 163 = dktX2_bears_7 := dk_seg dksX2_bears_6 23 rfl rfl
theorem dksX2_bears_8 : cX2_bears.data.toList.drop 187 = dktX2_bears_8 := dk_seg dksX2_bears_7 24 rfl rfl
theorem dX2_bears_0 : decode cX2_bears 0 = .ok (.iload 4, 2) := dk_21 4 (dk_at dksX2_bears_0 0 rfl rfl)
theorem dX2_bears_2 : decode cX2_bears 2 = .ok (.ifCond .lt 13, 3) := dk_155 0 13 (dk_at dksX2_bears_0 2 rfl rfl)
theorem dX2_bears_5 : decode cX2_bears 5 = .ok (.aload_n 0, 1) := dk_42 (dk_at dksX2_bears_0 5 rfl rfl)
theorem dX2_bears_6 : decode cX2_bears 6 = .ok (.iload_n 1, 1) := dk_27 (dk_at dksX2_bears_0 6 rfl rfl)
theorem dX2_bears_7 : decode cX2_bears 7 = .ok (.iload_n 2, 1) := dk_28 (dk_at dksX2_bears_0 7 rfl rfl)
theorem dX2_bears_8 : decode cX2_bears 8 = .ok (.iload_n 3, 1) := dk_29 (dk_at dksX2_bears_0 8 rfl rfl)
theorem dX2_bears_9 : decode cX2_bears 9 = .ok (.invokevirtual 446, 3) := dk_182 1 190 (dk_at dksX2_bears_0 9 rfl rfl)
theorem dX2_bears_12 : decode cX2_bears 12 = .ok (.ifCond .ne 6, 3) := dk_154 0 6 (dk_at dksX2_bears_0 12 rfl rfl)
theorem dX2_bears_15 : decode cX2_bears 15 = .ok (.bipush (-2), 2) := dk_16 254 (dk_at dksX2_bears_0 15 rfl rfl)
theorem dX2_bears_17 : decode cX2_bears 17 = .ok (.ireturn, 1) := dk_172 (dk_at dksX2_bears_0 17 rfl rfl)
theorem dX2_bears_18 : decode cX2_bears 18 = .ok (.aload_n 0, 1) := dk_42 (dk_at dksX2_bears_0 18 rfl rfl)
theorem dX2_bears_19 : decode cX2_bears 19 = .ok (.getfield 381, 3) := dk_180 1 125 (dk_at dksX2_bears_0 19 rfl rfl)
theorem dX2_bears_22 : decode cX2_bears 22 = .ok (.ifCond .ne 5, 3) := dk_154 0 5 (dk_at dksX2_bears_1 0 rfl rfl)
theorem dX2_bears_25 : decode cX2_bears 25 = .ok (.iconst (-1), 1) := dk_2 (dk_at dksX2_bears_1 3 rfl rfl)
theorem dX2_bears_26 : decode cX2_bears 26 = .ok (.ireturn, 1) := dk_172 (dk_at dksX2_bears_1 4 rfl rfl)
theorem dX2_bears_27 : decode cX2_bears 27 = .ok (.aload_n 0, 1) := dk_42 (dk_at dksX2_bears_1 5 rfl rfl)
theorem dX2_bears_28 : decode cX2_bears 28 = .ok (.getfield 66, 3) := dk_180 0 66 (dk_at dksX2_bears_1 6 rfl rfl)
theorem dX2_bears_31 : decode cX2_bears 31 = .ok (.bipush 12, 2) := dk_16 12 (dk_at dksX2_bears_1 9 rfl rfl)
theorem dX2_bears_33 : decode cX2_bears 33 = .ok (.iaload, 1) := dk_46 (dk_at dksX2_bears_1 11 rfl rfl)
theorem dX2_bears_34 : decode cX2_bears 34 = .ok (.ifCond .ne 10, 3) := dk_154 0 10 (dk_at dksX2_bears_1 12 rfl rfl)
theorem dX2_bears_37 : decode cX2_bears 37 = .ok (.aload_n 0, 1) := dk_42 (dk_at dksX2_bears_1 15 rfl rfl)
theorem dX2_bears_38 : decode cX2_bears 38 = .ok (.getfield 384, 3) := dk_180 1 128 (dk_at dksX2_bears_1 16 rfl rfl)
theorem dX2_bears_41 : decode cX2_bears 41 = .ok (.goto 4, 3) := dk_167 0 4 (dk_at dksX2_bears_1 19 rfl rfl)
theorem dX2_bears_44 : decode cX2_bears 44 = .ok (.iconst (-1), 1) := dk_2 (dk_at dksX2_bears_1 22 rfl rfl)
theorem dX2_bears_45 : decode cX2_bears 45 = .ok (.istore 5, 2) := dk_54 5 (dk_at dksX2_bears_2 0 rfl rfl)
theorem dX2_bears_47 : decode cX2_bears 47 = .ok (.iconst 0, 1) := dk_3 (dk_at dksX2_bears_2 2 rfl rfl)
theorem dX2_bears_48 : decode cX2_bears 48 = .ok (.istore 6, 2) := dk_54 6 (dk_at dksX2_bears_2 3 rfl rfl)
theorem dX2_bears_50 : decode cX2_bears 50 = .ok (.iload 6, 2) := dk_21 6 (dk_at dksX2_bears_2 5 rfl rfl)
theorem dX2_bears_52 : decode cX2_bears 52 = .ok (.aload_n 0, 1) := dk_42 (dk_at dksX2_bears_2 7 rfl rfl)
theorem dX2_bears_53 : decode cX2_bears 53 = .ok (.getfield 351, 3) := dk_180 1 95 (dk_at dksX2_bears_2 8 rfl rfl)
theorem dX2_bears_56 : decode cX2_bears 56 = .ok (.if_icmp .ge 87, 3) := dk_162 0 87 (dk_at dksX2_bears_2 11 rfl rfl)
theorem dX2_bears_59 : decode cX2_bears 59 = .ok (.aload_n 0, 1) := dk_42 (dk_at dksX2_bears_2 14 rfl rfl)
theorem dX2_bears_60 : decode cX2_bears 60 = .ok (.getfield 66, 3) := dk_180 0 66 (dk_at dksX2_bears_2 15 rfl rfl)
theorem dX2_bears_63 : decode cX2_bears 63 = .ok (.bipush 12, 2) := dk_16 12 (dk_at dksX2_bears_2 18 rfl rfl)
theorem dX2_bears_65 : decode cX2_bears 65 = .ok (.iaload, 1) := dk_46 (dk_at dksX2_bears_2 20 rfl rfl)
theorem dX2_bears_66 : decode cX2_bears 66 = .ok (.ifCond .le 77, 3) := dk_158 0 77 (dk_at dksX2_bears_2 21 rfl rfl)
theorem dX2_bears_69 : decode cX2_bears 69 = .ok (.aload_n 0, 1) := dk_42 (dk_at dksX2_bears_3 0 rfl rfl)
theorem dX2_bears_70 : decode cX2_bears 70 = .ok (.getfield 69, 3) := dk_180 0 69 (dk_at dksX2_bears_3 1 rfl rfl)
theorem dX2_bears_73 : decode cX2_bears 73 = .ok (.iload 6, 2) := dk_21 6 (dk_at dksX2_bears_3 4 rfl rfl)
theorem dX2_bears_75 : decode cX2_bears 75 = .ok (.iaload, 1) := dk_46 (dk_at dksX2_bears_3 6 rfl rfl)
theorem dX2_bears_76 : decode cX2_bears 76 = .ok (.bipush 7, 2) := dk_16 7 (dk_at dksX2_bears_3 7 rfl rfl)
theorem dX2_bears_78 : decode cX2_bears 78 = .ok (.if_icmp .ne 35, 3) := dk_160 0 35 (dk_at dksX2_bears_3 9 rfl rfl)
theorem dX2_bears_81 : decode cX2_bears 81 = .ok (.aload_n 0, 1) := dk_42 (dk_at dksX2_bears_3 12 rfl rfl)
theorem dX2_bears_82 : decode cX2_bears 82 = .ok (.getfield 81, 3) := dk_180 0 81 (dk_at dksX2_bears_3 13 rfl rfl)
theorem dX2_bears_85 : decode cX2_bears 85 = .ok (.iload 6, 2) := dk_21 6 (dk_at dksX2_bears_3 16 rfl rfl)
theorem dX2_bears_87 : decode cX2_bears 87 = .ok (.iaload, 1) := dk_46 (dk_at dksX2_bears_3 18 rfl rfl)
theorem dX2_bears_88 : decode cX2_bears 88 = .ok (.aload_n 0, 1) := dk_42 (dk_at dksX2_bears_3 19 rfl rfl)
theorem dX2_bears_89 : decode cX2_bears 89 = .ok (.getfield 390, 3) := dk_180 1 134 (dk_at dksX2_bears_3 20 rfl rfl)
theorem dX2_bears_92 : decode cX2_bears 92 = .ok (.if_icmp .ne 21, 3) := dk_160 0 21 (dk_at dksX2_bears_4 0 rfl rfl)
theorem dX2_bears_95 : decode cX2_bears 95 = .ok (.aload_n 0, 1) := dk_42 (dk_at dksX2_bears_4 3 rfl rfl)
theorem dX2_bears_96 : decode cX2_bears 96 = .ok (.iload 6, 2) := dk_21 6 (dk_at dksX2_bears_4 4 rfl rfl)
theorem dX2_bears_98 : decode cX2_bears 98 = .ok (.aload_n 0, 1) := dk_42 (dk_at dksX2_bears_4 6 rfl rfl)
theorem dX2_bears_99 : decode cX2_bears 99 = .ok (.getfield 66, 3) := dk_180 0 66 (dk_at dksX2_bears_4 7 rfl rfl)
theorem dX2_bears_102 : decode cX2_bears 102 = .ok (.bipush 12, 2) := dk_16 12 (dk_at dksX2_bears_4 10 rfl rfl)
theorem dX2_bears_104 : decode cX2_bears 104 = .ok (.iaload, 1) := dk_46 (dk_at dksX2_bears_4 12 rfl rfl)
theorem dX2_bears_105 : decode cX2_bears 105 = .ok (.iconst 1, 1) := dk_4 (dk_at dksX2_bears_4 13 rfl rfl)
theorem dX2_bears_106 : decode cX2_bears 106 = .ok (.isub, 1) := dk_100 (dk_at dksX2_bears_4 14 rfl rfl)
theorem dX2_bears_107 : decode cX2_bears 107 = .ok (.invokevirtual 363, 3) := dk_182 1 107 (dk_at dksX2_bears_4 15 rfl rfl)
theorem dX2_bears_110 : decode cX2_bears 110 = .ok (.goto 4, 3) := dk_167 0 4 (dk_at dksX2_bears_4 18 rfl rfl)
theorem dX2_bears_113 : decode cX2_bears 113 = .ok (.iconst (-1), 1) := dk_2 (dk_at dksX2_bears_4 21 rfl rfl)
theorem dX2_bears_114 : decode cX2_bears 114 = .ok (.istore 7, 2) := dk_54 7 (dk_at dksX2_bears_4 22 rfl rfl)
theorem dX2_bears_116 : decode cX2_bears 116 = .ok (.iload 7, 2) := dk_21 7 (dk_at dksX2_bears_5 0 rfl rfl)
theorem dX2_bears_118 : decode cX2_bears 118 = .ok (.ifCond .lt 19, 3) := dk_155 0 19 (dk_at dksX2_bears_5 2 rfl rfl)
theorem dX2_bears_121 : decode cX2_bears 121 = .ok (.iload 5, 2) := dk_21 5 (dk_at dksX2_bears_5 5 rfl rfl)
theorem dX2_bears_123 : decode cX2_bears 123 = .ok (.ifCond .lt 10, 3) := dk_155 0 10 (dk_at dksX2_bears_5 7 rfl rfl)
theorem dX2_bears_126 : decode cX2_bears 126 = .ok (.iload 7, 2) := dk_21 7 (dk_at dksX2_bears_5 10 rfl rfl)
theorem dX2_bears_128 : decode cX2_bears 128 = .ok (.iload 5, 2) := dk_21 5 (dk_at dksX2_bears_5 12 rfl rfl)
theorem dX2_bears_130 : decode cX2_bears 130 = .ok (.if_icmp .ge 7, 3) := dk_162 0 7 (dk_at dksX2_bears_5 14 rfl rfl)
theorem dX2_bears_133 : decode cX2_bears 133 = .ok (.iload 7, 2) := dk_21 7 (dk_at dksX2_bears_5 17 rfl rfl)
theorem dX2_bears_135 : decode cX2_bears 135 = .ok (.istore 5, 2) := dk_54 5 (dk_at dksX2_bears_5 19 rfl rfl)
theorem dX2_bears_137 : decode cX2_bears 137 = .ok (.iinc 6 1, 3) := dk_132 6 1 (dk_at dksX2_bears_5 21 rfl rfl)
theorem dX2_bears_140 : decode cX2_bears 140 = .ok (.goto (-90), 3) := dk_167 255 166 (dk_at dksX2_bears_6 0 rfl rfl)
theorem dX2_bears_143 : decode cX2_bears 143 = .ok (.iload 5, 2) := dk_21 5 (dk_at dksX2_bears_6 3 rfl rfl)
theorem dX2_bears_145 : decode cX2_bears 145 = .ok (.ifCond .lt 18, 3) := dk_155 0 18 (dk_at dksX2_bears_6 5 rfl rfl)
theorem dX2_bears_148 : decode cX2_bears 148 = .ok (.iload 5, 2) := dk_21 5 (dk_at dksX2_bears_6 8 rfl rfl)
theorem dX2_bears_150 : decode cX2_bears 150 = .ok (.aload_n 0, 1) := dk_42 (dk_at dksX2_bears_6 10 rfl rfl)
theorem dX2_bears_151 : decode cX2_bears 151 = .ok (.getfield 384, 3) := dk_180 1 128 (dk_at dksX2_bears_6 11 rfl rfl)
theorem dX2_bears_154 : decode cX2_bears 154 = .ok (.if_icmp .ge 9, 3) := dk_162 0 9 (dk_at dksX2_bears_6 14 rfl rfl)
theorem dX2_bears_157 : decode cX2_bears 157 = .ok (.aload_n 0, 1) := dk_42 (dk_at dksX2_bears_6 17 rfl rfl)
theorem dX2_bears_158 : decode cX2_bears 158 = .ok (.getfield 384, 3) := dk_180 1 128 (dk_at dksX2_bears_6 18 rfl rfl)
theorem dX2_bears_161 : decode cX2_bears 161 = .ok (.istore 5, 2) := dk_54 5 (dk_at dksX2_bears_6 21 rfl rfl)
theorem dX2_bears_163 : decode cX2_bears 163 = .ok (.iload 5, 2) := dk_21 5 (dk_at dksX2_bears_7 0 rfl rfl)
theorem dX2_bears_165 : decode cX2_bears 165 = .ok (.ifCond .lt 22, 3) := dk_155 0 22 (dk_at dksX2_bears_7 2 rfl rfl)
theorem dX2_bears_168 : decode cX2_bears 168 = .ok (.iload 4, 2) := dk_21 4 (dk_at dksX2_bears_7 5 rfl rfl)
theorem dX2_bears_170 : decode cX2_bears 170 = .ok (.iload 5, 2) := dk_21 5 (dk_at dksX2_bears_7 7 rfl rfl)
theorem dX2_bears_172 : decode cX2_bears 172 = .ok (.if_icmp .lt 15, 3) := dk_161 0 15 (dk_at dksX2_bears_7 9 rfl rfl)
theorem dX2_bears_175 : decode cX2_bears 175 = .ok (.aload_n 0, 1) := dk_42 (dk_at dksX2_bears_7 12 rfl rfl)
theorem dX2_bears_176 : decode cX2_bears 176 = .ok (.getfield 87, 3) := dk_180 0 87 (dk_at dksX2_bears_7 13 rfl rfl)
theorem dX2_bears_179 : decode cX2_bears 179 = .ok (.aload_n 0, 1) := dk_42 (dk_at dksX2_bears_7 16 rfl rfl)
theorem dX2_bears_180 : decode cX2_bears 180 = .ok (.getfield 390, 3) := dk_180 1 134 (dk_at dksX2_bears_7 17 rfl rfl)
theorem dX2_bears_183 : decode cX2_bears 183 = .ok (.iaload, 1) := dk_46 (dk_at dksX2_bears_7 20 rfl rfl)
theorem dX2_bears_184 : decode cX2_bears 184 = .ok (.goto 12, 3) := dk_167 0 12 (dk_at dksX2_bears_7 21 rfl rfl)
theorem dX2_bears_187 : decode cX2_bears 187 = .ok (.aload_n 0, 1) := dk_42 (dk_at dksX2_bears_8 0 rfl rfl)
theorem dX2_bears_188 : decode cX2_bears 188 = .ok (.getfield 84, 3) := dk_180 0 84 (dk_at dksX2_bears_8 1 rfl rfl)
theorem dX2_bears_191 : decode cX2_bears 191 = .ok (.aload_n 0, 1) := dk_42 (dk_at dksX2_bears_8 4 rfl rfl)
theorem dX2_bears_192 : decode cX2_bears 192 = .ok (.getfield 390, 3) := dk_180 1 134 (dk_at dksX2_bears_8 5 rfl rfl)
theorem dX2_bears_195 : decode cX2_bears 195 = .ok (.iaload, 1) := dk_46 (dk_at dksX2_bears_8 8 rfl rfl)
theorem dX2_bears_196 : decode cX2_bears 196 = .ok (.ireturn, 1) := dk_172 (dk_at dksX2_bears_8 9 rfl rfl)
abbrev cX2_judge : ByteArray := prog_23_method_75_code
def yX2_judge : MethodName := ⟨RX2, "judge", "(IIIII)I"⟩
def dkwX2_judge_3 : List UInt8 := [172]
abbrev dktX2_judge_3 : List UInt8 := dkwX2_judge_3 ++ []
def dkwX2_judge_2 : List UInt8 := [180, 1, 131, 159, 0, 7, 4, 167, 0, 17, 21, 5, 42, 180, 1, 128, 159, 0, 7, 5, 167, 0, 4, 2]
abbrev dktX2_judge_2 : List UInt8 := dkwX2_judge_2 ++ dktX2_judge_3
def dkwX2_judge_1 : List UInt8 := [3, 42, 180, 1, 125, 159, 0, 5, 3, 172, 42, 180, 1, 125, 154, 0, 5, 2, 172, 21, 4, 42]
abbrev dktX2_judge_1 : List UInt8 := dkwX2_judge_1 ++ dktX2_judge_2
def dkwX2_judge_0 : List UInt8 := [42, 27, 28, 29, 182, 1, 190, 154, 0, 6, 16, 254, 172, 21, 4, 16, 254, 159, 0, 7, 4, 167, 0, 4]
abbrev dktX2_judge_0 : List UInt8 := dkwX2_judge_0 ++ dktX2_judge_1
theorem dksX2_judge_0 : cX2_judge.data.toList.drop 0 = dktX2_judge_0 := by decide +kernel
theorem dksX2_judge_1 : cX2_judge.data.toList.drop 24 = dktX2_judge_1 := dk_seg dksX2_judge_0 24 rfl rfl
theorem dksX2_judge_2 : cX2_judge.data.toList.drop 46 = dktX2_judge_2 := dk_seg dksX2_judge_1 22 rfl rfl
theorem dksX2_judge_3 : cX2_judge.data.toList.drop 70 = dktX2_judge_3 := dk_seg dksX2_judge_2 24 rfl rfl
theorem dX2_judge_0 : decode cX2_judge 0 = .ok (.aload_n 0, 1) := dk_42 (dk_at dksX2_judge_0 0 rfl rfl)
theorem dX2_judge_1 : decode cX2_judge 1 = .ok (.iload_n 1, 1) := dk_27 (dk_at dksX2_judge_0 1 rfl rfl)
theorem dX2_judge_2 : decode cX2_judge 2 = .ok (.iload_n 2, 1) := dk_28 (dk_at dksX2_judge_0 2 rfl rfl)
theorem dX2_judge_3 : decode cX2_judge 3 = .ok (.iload_n 3, 1) := dk_29 (dk_at dksX2_judge_0 3 rfl rfl)
theorem dX2_judge_4 : decode cX2_judge 4 = .ok (.invokevirtual 446, 3) := dk_182 1 190 (dk_at dksX2_judge_0 4 rfl rfl)
theorem dX2_judge_7 : decode cX2_judge 7 = .ok (.ifCond .ne 6, 3) := dk_154 0 6 (dk_at dksX2_judge_0 7 rfl rfl)
theorem dX2_judge_10 : decode cX2_judge 10 = .ok (.bipush (-2), 2) := dk_16 254 (dk_at dksX2_judge_0 10 rfl rfl)
theorem dX2_judge_12 : decode cX2_judge 12 = .ok (.ireturn, 1) := dk_172 (dk_at dksX2_judge_0 12 rfl rfl)
theorem dX2_judge_13 : decode cX2_judge 13 = .ok (.iload 4, 2) := dk_21 4 (dk_at dksX2_judge_0 13 rfl rfl)
theorem dX2_judge_15 : decode cX2_judge 15 = .ok (.bipush (-2), 2) := dk_16 254 (dk_at dksX2_judge_0 15 rfl rfl)
theorem dX2_judge_17 : decode cX2_judge 17 = .ok (.if_icmp .eq 7, 3) := dk_159 0 7 (dk_at dksX2_judge_0 17 rfl rfl)
theorem dX2_judge_20 : decode cX2_judge 20 = .ok (.iconst 1, 1) := dk_4 (dk_at dksX2_judge_0 20 rfl rfl)
theorem dX2_judge_21 : decode cX2_judge 21 = .ok (.goto 4, 3) := dk_167 0 4 (dk_at dksX2_judge_0 21 rfl rfl)
theorem dX2_judge_24 : decode cX2_judge 24 = .ok (.iconst 0, 1) := dk_3 (dk_at dksX2_judge_1 0 rfl rfl)
theorem dX2_judge_25 : decode cX2_judge 25 = .ok (.aload_n 0, 1) := dk_42 (dk_at dksX2_judge_1 1 rfl rfl)
theorem dX2_judge_26 : decode cX2_judge 26 = .ok (.getfield 381, 3) := dk_180 1 125 (dk_at dksX2_judge_1 2 rfl rfl)
theorem dX2_judge_29 : decode cX2_judge 29 = .ok (.if_icmp .eq 5, 3) := dk_159 0 5 (dk_at dksX2_judge_1 5 rfl rfl)
theorem dX2_judge_32 : decode cX2_judge 32 = .ok (.iconst 0, 1) := dk_3 (dk_at dksX2_judge_1 8 rfl rfl)
theorem dX2_judge_33 : decode cX2_judge 33 = .ok (.ireturn, 1) := dk_172 (dk_at dksX2_judge_1 9 rfl rfl)
theorem dX2_judge_34 : decode cX2_judge 34 = .ok (.aload_n 0, 1) := dk_42 (dk_at dksX2_judge_1 10 rfl rfl)
theorem dX2_judge_35 : decode cX2_judge 35 = .ok (.getfield 381, 3) := dk_180 1 125 (dk_at dksX2_judge_1 11 rfl rfl)
theorem dX2_judge_38 : decode cX2_judge 38 = .ok (.ifCond .ne 5, 3) := dk_154 0 5 (dk_at dksX2_judge_1 14 rfl rfl)
theorem dX2_judge_41 : decode cX2_judge 41 = .ok (.iconst (-1), 1) := dk_2 (dk_at dksX2_judge_1 17 rfl rfl)
theorem dX2_judge_42 : decode cX2_judge 42 = .ok (.ireturn, 1) := dk_172 (dk_at dksX2_judge_1 18 rfl rfl)
theorem dX2_judge_43 : decode cX2_judge 43 = .ok (.iload 4, 2) := dk_21 4 (dk_at dksX2_judge_1 19 rfl rfl)
theorem dX2_judge_45 : decode cX2_judge 45 = .ok (.aload_n 0, 1) := dk_42 (dk_at dksX2_judge_1 21 rfl rfl)
theorem dX2_judge_46 : decode cX2_judge 46 = .ok (.getfield 387, 3) := dk_180 1 131 (dk_at dksX2_judge_2 0 rfl rfl)
theorem dX2_judge_49 : decode cX2_judge 49 = .ok (.if_icmp .eq 7, 3) := dk_159 0 7 (dk_at dksX2_judge_2 3 rfl rfl)
theorem dX2_judge_52 : decode cX2_judge 52 = .ok (.iconst 1, 1) := dk_4 (dk_at dksX2_judge_2 6 rfl rfl)
theorem dX2_judge_53 : decode cX2_judge 53 = .ok (.goto 17, 3) := dk_167 0 17 (dk_at dksX2_judge_2 7 rfl rfl)
theorem dX2_judge_56 : decode cX2_judge 56 = .ok (.iload 5, 2) := dk_21 5 (dk_at dksX2_judge_2 10 rfl rfl)
theorem dX2_judge_58 : decode cX2_judge 58 = .ok (.aload_n 0, 1) := dk_42 (dk_at dksX2_judge_2 12 rfl rfl)
theorem dX2_judge_59 : decode cX2_judge 59 = .ok (.getfield 384, 3) := dk_180 1 128 (dk_at dksX2_judge_2 13 rfl rfl)
theorem dX2_judge_62 : decode cX2_judge 62 = .ok (.if_icmp .eq 7, 3) := dk_159 0 7 (dk_at dksX2_judge_2 16 rfl rfl)
theorem dX2_judge_65 : decode cX2_judge 65 = .ok (.iconst 2, 1) := dk_5 (dk_at dksX2_judge_2 19 rfl rfl)
theorem dX2_judge_66 : decode cX2_judge 66 = .ok (.goto 4, 3) := dk_167 0 4 (dk_at dksX2_judge_2 20 rfl rfl)
theorem dX2_judge_69 : decode cX2_judge 69 = .ok (.iconst (-1), 1) := dk_2 (dk_at dksX2_judge_2 23 rfl rfl)
theorem dX2_judge_70 : decode cX2_judge 70 = .ok (.ireturn, 1) := dk_172 (dk_at dksX2_judge_3 0 rfl rfl)
abbrev cX2_apart : ByteArray := prog_23_method_77_code
def yX2_apart : MethodName := ⟨RX2, "apart", "(IIII)I"⟩
def dkwX2_apart_2 : List UInt8 := [180, 1, 208, 172]
abbrev dktX2_apart_2 : List UInt8 := dkwX2_apart_2 ++ []
def dkwX2_apart_1 : List UInt8 := [182, 1, 211, 154, 0, 6, 16, 254, 172, 21, 4, 154, 0, 10, 42, 180, 1, 205, 167, 0, 7, 42]
abbrev dktX2_apart_1 : List UInt8 := dkwX2_apart_1 ++ dktX2_apart_2
def dkwX2_apart_0 : List UInt8 := [42, 29, 182, 1, 89, 153, 0, 23, 21, 4, 3, 4, 184, 0, 176, 153, 0, 13, 42, 27, 28, 29]
abbrev dktX2_apart_0 : List UInt8 := dkwX2_apart_0 ++ dktX2_apart_1
theorem dksX2_apart_0 : cX2_apart.data.toList.drop 0 = dktX2_apart_0 := by decide +kernel
theorem dksX2_apart_1 : cX2_apart.data.toList.drop 22 = dktX2_apart_1 := dk_seg dksX2_apart_0 22 rfl rfl
theorem dksX2_apart_2 : cX2_apart.data.toList.drop 44 = dktX2_apart_2 := dk_seg dksX2_apart_1 22 rfl rfl
theorem dX2_apart_0 : decode cX2_apart 0 = .ok (.aload_n 0, 1) := dk_42 (dk_at dksX2_apart_0 0 rfl rfl)
theorem dX2_apart_1 : decode cX2_apart 1 = .ok (.iload_n 3, 1) := dk_29 (dk_at dksX2_apart_0 1 rfl rfl)
theorem dX2_apart_2 : decode cX2_apart 2 = .ok (.invokevirtual 345, 3) := dk_182 1 89 (dk_at dksX2_apart_0 2 rfl rfl)
theorem dX2_apart_5 : decode cX2_apart 5 = .ok (.ifCond .eq 23, 3) := dk_153 0 23 (dk_at dksX2_apart_0 5 rfl rfl)
theorem dX2_apart_8 : decode cX2_apart 8 = .ok (.iload 4, 2) := dk_21 4 (dk_at dksX2_apart_0 8 rfl rfl)
theorem dX2_apart_10 : decode cX2_apart 10 = .ok (.iconst 0, 1) := dk_3 (dk_at dksX2_apart_0 10 rfl rfl)
theorem dX2_apart_11 : decode cX2_apart 11 = .ok (.iconst 1, 1) := dk_4 (dk_at dksX2_apart_0 11 rfl rfl)
theorem dX2_apart_12 : decode cX2_apart 12 = .ok (.invokestatic 176, 3) := dk_184 0 176 (dk_at dksX2_apart_0 12 rfl rfl)
theorem dX2_apart_15 : decode cX2_apart 15 = .ok (.ifCond .eq 13, 3) := dk_153 0 13 (dk_at dksX2_apart_0 15 rfl rfl)
theorem dX2_apart_18 : decode cX2_apart 18 = .ok (.aload_n 0, 1) := dk_42 (dk_at dksX2_apart_0 18 rfl rfl)
theorem dX2_apart_19 : decode cX2_apart 19 = .ok (.iload_n 1, 1) := dk_27 (dk_at dksX2_apart_0 19 rfl rfl)
theorem dX2_apart_20 : decode cX2_apart 20 = .ok (.iload_n 2, 1) := dk_28 (dk_at dksX2_apart_0 20 rfl rfl)
theorem dX2_apart_21 : decode cX2_apart 21 = .ok (.iload_n 3, 1) := dk_29 (dk_at dksX2_apart_0 21 rfl rfl)
theorem dX2_apart_22 : decode cX2_apart 22 = .ok (.invokevirtual 467, 3) := dk_182 1 211 (dk_at dksX2_apart_1 0 rfl rfl)
theorem dX2_apart_25 : decode cX2_apart 25 = .ok (.ifCond .ne 6, 3) := dk_154 0 6 (dk_at dksX2_apart_1 3 rfl rfl)
theorem dX2_apart_28 : decode cX2_apart 28 = .ok (.bipush (-2), 2) := dk_16 254 (dk_at dksX2_apart_1 6 rfl rfl)
theorem dX2_apart_30 : decode cX2_apart 30 = .ok (.ireturn, 1) := dk_172 (dk_at dksX2_apart_1 8 rfl rfl)
theorem dX2_apart_31 : decode cX2_apart 31 = .ok (.iload 4, 2) := dk_21 4 (dk_at dksX2_apart_1 9 rfl rfl)
theorem dX2_apart_33 : decode cX2_apart 33 = .ok (.ifCond .ne 10, 3) := dk_154 0 10 (dk_at dksX2_apart_1 11 rfl rfl)
theorem dX2_apart_36 : decode cX2_apart 36 = .ok (.aload_n 0, 1) := dk_42 (dk_at dksX2_apart_1 14 rfl rfl)
theorem dX2_apart_37 : decode cX2_apart 37 = .ok (.getfield 461, 3) := dk_180 1 205 (dk_at dksX2_apart_1 15 rfl rfl)
theorem dX2_apart_40 : decode cX2_apart 40 = .ok (.goto 7, 3) := dk_167 0 7 (dk_at dksX2_apart_1 18 rfl rfl)
theorem dX2_apart_43 : decode cX2_apart 43 = .ok (.aload_n 0, 1) := dk_42 (dk_at dksX2_apart_1 21 rfl rfl)
theorem dX2_apart_44 : decode cX2_apart 44 = .ok (.getfield 464, 3) := dk_180 1 208 (dk_at dksX2_apart_2 0 rfl rfl)
theorem dX2_apart_47 : decode cX2_apart 47 = .ok (.ireturn, 1) := dk_172 (dk_at dksX2_apart_2 3 rfl rfl)
abbrev cX2_findApart : ByteArray := prog_23_method_76_code
def yX2_findApart : MethodName := ⟨RX2, "findApart", "(III)Z"⟩
def dkwX2_findApart_11 : List UInt8 := [132, 4, 1, 167, 255, 120, 4, 172]
abbrev dktX2_findApart_11 : List UInt8 := dkwX2_findApart_11 ++ []
def dkwX2_findApart_10 : List UInt8 := [42, 89, 180, 1, 205, 4, 96, 181, 1, 205, 42, 180, 1, 208, 156, 0, 9, 42, 21, 4, 181, 1, 208]
abbrev dktX2_findApart_10 : List UInt8 := dkwX2_findApart_10 ++ dktX2_findApart_11
def dkwX2_findApart_9 : List UInt8 := [159, 0, 7, 4, 167, 0, 4, 3, 54, 5, 132, 6, 1, 167, 255, 207, 21, 5, 154, 0, 6, 167, 0, 26]
abbrev dktX2_findApart_9 : List UInt8 := dkwX2_findApart_9 ++ dktX2_findApart_10
def dkwX2_findApart_8 : List UInt8 := [21, 5, 154, 0, 24, 42, 180, 0, 145, 8, 21, 4, 104, 21, 6, 96, 46, 42, 21, 6, 182, 1, 193]
abbrev dktX2_findApart_8 : List UInt8 := dkwX2_findApart_8 ++ dktX2_findApart_9
def dkwX2_findApart_7 : List UInt8 := [4, 167, 0, 4, 3, 54, 5, 3, 54, 6, 21, 6, 8, 162, 0, 49, 42, 180, 1, 125, 153, 0, 42]
abbrev dktX2_findApart_7 : List UInt8 := dkwX2_findApart_7 ++ dktX2_findApart_8
def dkwX2_findApart_6 : List UInt8 := [180, 0, 142, 21, 4, 46, 42, 180, 1, 125, 153, 0, 10, 42, 180, 1, 128, 167, 0, 4, 2, 159, 0, 7]
abbrev dktX2_findApart_6 : List UInt8 := dkwX2_findApart_6 ++ dktX2_findApart_7
def dkwX2_findApart_5 : List UInt8 := [27, 182, 1, 184, 3, 54, 4, 21, 4, 42, 180, 1, 101, 162, 0, 133, 42, 21, 4, 182, 1, 175, 42]
abbrev dktX2_findApart_5 : List UInt8 := dkwX2_findApart_5 ++ dktX2_findApart_6
def dkwX2_findApart_4 : List UInt8 := [167, 0, 4, 2, 79, 132, 5, 1, 167, 255, 218, 132, 4, 1, 167, 255, 172, 42, 29, 3, 182, 1, 92, 42]
abbrev dktX2_findApart_4 : List UInt8 := dkwX2_findApart_4 ++ dktX2_findApart_5
def dkwX2_findApart_3 : List UInt8 := [42, 180, 0, 145, 8, 21, 4, 104, 21, 5, 96, 42, 180, 1, 125, 153, 0, 12, 42, 21, 5, 182, 1, 193]
abbrev dktX2_findApart_3 : List UInt8 := dkwX2_findApart_3 ++ dktX2_findApart_4
def dkwX2_findApart_2 : List UInt8 := [180, 1, 125, 153, 0, 10, 42, 180, 1, 128, 167, 0, 4, 2, 79, 3, 54, 5, 21, 5, 8, 162, 0, 38]
abbrev dktX2_findApart_2 : List UInt8 := dkwX2_findApart_2 ++ dktX2_findApart_3
def dkwX2_findApart_1 : List UInt8 := [54, 4, 21, 4, 42, 180, 1, 101, 162, 0, 81, 42, 21, 4, 182, 1, 175, 42, 180, 0, 142, 21, 4, 42]
abbrev dktX2_findApart_1 : List UInt8 := dkwX2_findApart_1 ++ dktX2_findApart_2
def dkwX2_findApart_0 : List UInt8 := [42, 27, 28, 3, 182, 1, 190, 154, 0, 5, 3, 172, 42, 3, 181, 1, 205, 42, 2, 181, 1, 208, 3]
abbrev dktX2_findApart_0 : List UInt8 := dkwX2_findApart_0 ++ dktX2_findApart_1
theorem dksX2_findApart_0 : cX2_findApart.data.toList.drop 0 = dktX2_findApart_0 := by decide +kernel
theorem dksX2_findApart_1 : cX2_findApart.data.toList.drop 23 = dktX2_findApart_1 := dk_seg dksX2_findApart_0 23 rfl rfl
theorem dksX2_findApart_2 : cX2_findApart.data.toList.drop 47 = dktX2_findApart_2 := dk_seg dksX2_findApart_1 24 rfl rfl
theorem dksX2_findApart_3 : cX2_findApart.data.toList.drop 71 = dktX2_findApart_3 := dk_seg dksX2_findApart_2 24 rfl rfl
theorem dksX2_findApart_4 : cX2_findApart.data.toList.drop 95 = dktX2_findApart_4 := dk_seg dksX2_findApart_3 24 rfl rfl
theorem dksX2_findApart_5 : cX2_findApart.data.toList.drop 119 = dktX2_findApart_5 := dk_seg dksX2_findApart_4 24 rfl rfl
theorem dksX2_findApart_6 : cX2_findApart.data.toList.drop 142 = dktX2_findApart_6 := dk_seg dksX2_findApart_5 23 rfl rfl
theorem dksX2_findApart_7 : cX2_findApart.data.toList.drop 166 = dktX2_findApart_7 := dk_seg dksX2_findApart_6 24 rfl rfl
theorem dksX2_findApart_8 : cX2_findApart.data.toList.drop 189 = dktX2_findApart_8 := dk_seg dksX2_findApart_7 23 rfl rfl
theorem dksX2_findApart_9 : cX2_findApart.data.toList.drop 212 = dktX2_findApart_9 := dk_seg dksX2_findApart_8 23 rfl rfl
theorem dksX2_findApart_10 : cX2_findApart.data.toList.drop 236 = dktX2_findApart_10 := dk_seg dksX2_findApart_9 24 rfl rfl
theorem dksX2_findApart_11 : cX2_findApart.data.toList.drop 259 = dktX2_findApart_11 := dk_seg dksX2_findApart_10 23 rfl rfl
theorem dX2_findApart_0 : decode cX2_findApart 0 = .ok (.aload_n 0, 1) := dk_42 (dk_at dksX2_findApart_0 0 rfl rfl)
theorem dX2_findApart_1 : decode cX2_findApart 1 = .ok (.iload_n 1, 1) := dk_27 (dk_at dksX2_findApart_0 1 rfl rfl)
theorem dX2_findApart_2 : decode cX2_findApart 2 = .ok (.iload_n 2, 1) := dk_28 (dk_at dksX2_findApart_0 2 rfl rfl)
theorem dX2_findApart_3 : decode cX2_findApart 3 = .ok (.iconst 0, 1) := dk_3 (dk_at dksX2_findApart_0 3 rfl rfl)
theorem dX2_findApart_4 : decode cX2_findApart 4 = .ok (.invokevirtual 446, 3) := dk_182 1 190 (dk_at dksX2_findApart_0 4 rfl rfl)
theorem dX2_findApart_7 : decode cX2_findApart 7 = .ok (.ifCond .ne 5, 3) := dk_154 0 5 (dk_at dksX2_findApart_0 7 rfl rfl)
theorem dX2_findApart_10 : decode cX2_findApart 10 = .ok (.iconst 0, 1) := dk_3 (dk_at dksX2_findApart_0 10 rfl rfl)
theorem dX2_findApart_11 : decode cX2_findApart 11 = .ok (.ireturn, 1) := dk_172 (dk_at dksX2_findApart_0 11 rfl rfl)
theorem dX2_findApart_12 : decode cX2_findApart 12 = .ok (.aload_n 0, 1) := dk_42 (dk_at dksX2_findApart_0 12 rfl rfl)
theorem dX2_findApart_13 : decode cX2_findApart 13 = .ok (.iconst 0, 1) := dk_3 (dk_at dksX2_findApart_0 13 rfl rfl)
theorem dX2_findApart_14 : decode cX2_findApart 14 = .ok (.putfield 461, 3) := dk_181 1 205 (dk_at dksX2_findApart_0 14 rfl rfl)
theorem dX2_findApart_17 : decode cX2_findApart 17 = .ok (.aload_n 0, 1) := dk_42 (dk_at dksX2_findApart_0 17 rfl rfl)
theorem dX2_findApart_18 : decode cX2_findApart 18 = .ok (.iconst (-1), 1) := dk_2 (dk_at dksX2_findApart_0 18 rfl rfl)
theorem dX2_findApart_19 : decode cX2_findApart 19 = .ok (.putfield 464, 3) := dk_181 1 208 (dk_at dksX2_findApart_0 19 rfl rfl)
theorem dX2_findApart_22 : decode cX2_findApart 22 = .ok (.iconst 0, 1) := dk_3 (dk_at dksX2_findApart_0 22 rfl rfl)
theorem dX2_findApart_23 : decode cX2_findApart 23 = .ok (.istore 4, 2) := dk_54 4 (dk_at dksX2_findApart_1 0 rfl rfl)
theorem dX2_findApart_25 : decode cX2_findApart 25 = .ok (.iload 4, 2) := dk_21 4 (dk_at dksX2_findApart_1 2 rfl rfl)
theorem dX2_findApart_27 : decode cX2_findApart 27 = .ok (.aload_n 0, 1) := dk_42 (dk_at dksX2_findApart_1 4 rfl rfl)
theorem dX2_findApart_28 : decode cX2_findApart 28 = .ok (.getfield 357, 3) := dk_180 1 101 (dk_at dksX2_findApart_1 5 rfl rfl)
theorem dX2_findApart_31 : decode cX2_findApart 31 = .ok (.if_icmp .ge 81, 3) := dk_162 0 81 (dk_at dksX2_findApart_1 8 rfl rfl)
theorem dX2_findApart_34 : decode cX2_findApart 34 = .ok (.aload_n 0, 1) := dk_42 (dk_at dksX2_findApart_1 11 rfl rfl)
theorem dX2_findApart_35 : decode cX2_findApart 35 = .ok (.iload 4, 2) := dk_21 4 (dk_at dksX2_findApart_1 12 rfl rfl)
theorem dX2_findApart_37 : decode cX2_findApart 37 = .ok (.invokevirtual 431, 3) := dk_182 1 175 (dk_at dksX2_findApart_1 14 rfl rfl)
theorem dX2_findApart_40 : decode cX2_findApart 40 = .ok (.aload_n 0, 1) := dk_42 (dk_at dksX2_findApart_1 17 rfl rfl)
theorem dX2_findApart_41 : decode cX2_findApart 41 = .ok (.getfield 142, 3) := dk_180 0 142 (dk_at dksX2_findApart_1 18 rfl rfl)
theorem dX2_findApart_44 : decode cX2_findApart 44 = .ok (.iload 4, 2) := dk_21 4 (dk_at dksX2_findApart_1 21 rfl rfl)
theorem dX2_findApart_46 : decode cX2_findApart 46 = .ok (.aload_n 0, 1) := dk_42 (dk_at dksX2_findApart_1 23 rfl rfl)
theorem dX2_findApart_47 : decode cX2_findApart 47 = .ok (.getfield 381, 3) := dk_180 1 125 (dk_at dksX2_findApart_2 0 rfl rfl)
theorem dX2_findApart_50 : decode cX2_findApart 50 = .ok (.ifCond .eq 10, 3) := dk_153 0 10 (dk_at dksX2_findApart_2 3 rfl rfl)
theorem dX2_findApart_53 : decode cX2_findApart 53 = .ok (.aload_n 0, 1) := dk_42 (dk_at dksX2_findApart_2 6 rfl rfl)
theorem dX2_findApart_54 : decode cX2_findApart 54 = .ok (.getfield 384, 3) := dk_180 1 128 (dk_at dksX2_findApart_2 7 rfl rfl)
theorem dX2_findApart_57 : decode cX2_findApart 57 = .ok (.goto 4, 3) := dk_167 0 4 (dk_at dksX2_findApart_2 10 rfl rfl)
theorem dX2_findApart_60 : decode cX2_findApart 60 = .ok (.iconst (-1), 1) := dk_2 (dk_at dksX2_findApart_2 13 rfl rfl)
theorem dX2_findApart_61 : decode cX2_findApart 61 = .ok (.iastore, 1) := dk_79 (dk_at dksX2_findApart_2 14 rfl rfl)
theorem dX2_findApart_62 : decode cX2_findApart 62 = .ok (.iconst 0, 1) := dk_3 (dk_at dksX2_findApart_2 15 rfl rfl)
theorem dX2_findApart_63 : decode cX2_findApart 63 = .ok (.istore 5, 2) := dk_54 5 (dk_at dksX2_findApart_2 16 rfl rfl)
theorem dX2_findApart_65 : decode cX2_findApart 65 = .ok (.iload 5, 2) := dk_21 5 (dk_at dksX2_findApart_2 18 rfl rfl)
theorem dX2_findApart_67 : decode cX2_findApart 67 = .ok (.iconst 5, 1) := dk_8 (dk_at dksX2_findApart_2 20 rfl rfl)
theorem dX2_findApart_68 : decode cX2_findApart 68 = .ok (.if_icmp .ge 38, 3) := dk_162 0 38 (dk_at dksX2_findApart_2 21 rfl rfl)
theorem dX2_findApart_71 : decode cX2_findApart 71 = .ok (.aload_n 0, 1) := dk_42 (dk_at dksX2_findApart_3 0 rfl rfl)
theorem dX2_findApart_72 : decode cX2_findApart 72 = .ok (.getfield 145, 3) := dk_180 0 145 (dk_at dksX2_findApart_3 1 rfl rfl)
theorem dX2_findApart_75 : decode cX2_findApart 75 = .ok (.iconst 5, 1) := dk_8 (dk_at dksX2_findApart_3 4 rfl rfl)
theorem dX2_findApart_76 : decode cX2_findApart 76 = .ok (.iload 4, 2) := dk_21 4 (dk_at dksX2_findApart_3 5 rfl rfl)
theorem dX2_findApart_78 : decode cX2_findApart 78 = .ok (.imul, 1) := dk_104 (dk_at dksX2_findApart_3 7 rfl rfl)
theorem dX2_findApart_79 : decode cX2_findApart 79 = .ok (.iload 5, 2) := dk_21 5 (dk_at dksX2_findApart_3 8 rfl rfl)
theorem dX2_findApart_81 : decode cX2_findApart 81 = .ok (.iadd, 1) := dk_96 (dk_at dksX2_findApart_3 10 rfl rfl)
theorem dX2_findApart_82 : decode cX2_findApart 82 = .ok (.aload_n 0, 1) := dk_42 (dk_at dksX2_findApart_3 11 rfl rfl)
theorem dX2_findApart_83 : decode cX2_findApart 83 = .ok (.getfield 381, 3) := dk_180 1 125 (dk_at dksX2_findApart_3 12 rfl rfl)
theorem dX2_findApart_86 : decode cX2_findApart 86 = .ok (.ifCond .eq 12, 3) := dk_153 0 12 (dk_at dksX2_findApart_3 15 rfl rfl)
theorem dX2_findApart_89 : decode cX2_findApart 89 = .ok (.aload_n 0, 1) := dk_42 (dk_at dksX2_findApart_3 18 rfl rfl)
theorem dX2_findApart_90 : decode cX2_findApart 90 = .ok (.iload 5, 2) := dk_21 5 (dk_at dksX2_findApart_3 19 rfl rfl)
theorem dX2_findApart_92 : decode cX2_findApart 92 = .ok (.invokevirtual 449, 3) := dk_182 1 193 (dk_at dksX2_findApart_3 21 rfl rfl)
theorem dX2_findApart_95 : decode cX2_findApart 95 = .ok (.goto 4, 3) := dk_167 0 4 (dk_at dksX2_findApart_4 0 rfl rfl)
theorem dX2_findApart_98 : decode cX2_findApart 98 = .ok (.iconst (-1), 1) := dk_2 (dk_at dksX2_findApart_4 3 rfl rfl)
theorem dX2_findApart_99 : decode cX2_findApart 99 = .ok (.iastore, 1) := dk_79 (dk_at dksX2_findApart_4 4 rfl rfl)
theorem dX2_findApart_100 : decode cX2_findApart 100 = .ok (.iinc 5 1, 3) := dk_132 5 1 (dk_at dksX2_findApart_4 5 rfl rfl)
theorem dX2_findApart_103 : decode cX2_findApart 103 = .ok (.goto (-38), 3) := dk_167 255 218 (dk_at dksX2_findApart_4 8 rfl rfl)
theorem dX2_findApart_106 : decode cX2_findApart 106 = .ok (.iinc 4 1, 3) := dk_132 4 1 (dk_at dksX2_findApart_4 11 rfl rfl)
theorem dX2_findApart_109 : decode cX2_findApart 109 = .ok (.goto (-84), 3) := dk_167 255 172 (dk_at dksX2_findApart_4 14 rfl rfl)
theorem dX2_findApart_112 : decode cX2_findApart 112 = .ok (.aload_n 0, 1) := dk_42 (dk_at dksX2_findApart_4 17 rfl rfl)
theorem dX2_findApart_113 : decode cX2_findApart 113 = .ok (.iload_n 3, 1) := dk_29 (dk_at dksX2_findApart_4 18 rfl rfl)
theorem dX2_findApart_114 : decode cX2_findApart 114 = .ok (.iconst 0, 1) := dk_3 (dk_at dksX2_findApart_4 19 rfl rfl)
theorem dX2_findApart_115 : decode cX2_findApart 115 = .ok (.invokevirtual 348, 3) := dk_182 1 92 (dk_at dksX2_findApart_4 20 rfl rfl)
theorem dX2_findApart_118 : decode cX2_findApart 118 = .ok (.aload_n 0, 1) := dk_42 (dk_at dksX2_findApart_4 23 rfl rfl)
theorem dX2_findApart_119 : decode cX2_findApart 119 = .ok (.iload_n 1, 1) := dk_27 (dk_at dksX2_findApart_5 0 rfl rfl)
theorem dX2_findApart_120 : decode cX2_findApart 120 = .ok (.invokevirtual 440, 3) := dk_182 1 184 (dk_at dksX2_findApart_5 1 rfl rfl)
theorem dX2_findApart_123 : decode cX2_findApart 123 = .ok (.iconst 0, 1) := dk_3 (dk_at dksX2_findApart_5 4 rfl rfl)
theorem dX2_findApart_124 : decode cX2_findApart 124 = .ok (.istore 4, 2) := dk_54 4 (dk_at dksX2_findApart_5 5 rfl rfl)
theorem dX2_findApart_126 : decode cX2_findApart 126 = .ok (.iload 4, 2) := dk_21 4 (dk_at dksX2_findApart_5 7 rfl rfl)
theorem dX2_findApart_128 : decode cX2_findApart 128 = .ok (.aload_n 0, 1) := dk_42 (dk_at dksX2_findApart_5 9 rfl rfl)
theorem dX2_findApart_129 : decode cX2_findApart 129 = .ok (.getfield 357, 3) := dk_180 1 101 (dk_at dksX2_findApart_5 10 rfl rfl)
theorem dX2_findApart_132 : decode cX2_findApart 132 = .ok (.if_icmp .ge 133, 3) := dk_162 0 133 (dk_at dksX2_findApart_5 13 rfl rfl)
theorem dX2_findApart_135 : decode cX2_findApart 135 = .ok (.aload_n 0, 1) := dk_42 (dk_at dksX2_findApart_5 16 rfl rfl)
theorem dX2_findApart_136 : decode cX2_findApart 136 = .ok (.iload 4, 2) := dk_21 4 (dk_at dksX2_findApart_5 17 rfl rfl)
theorem dX2_findApart_138 : decode cX2_findApart 138 = .ok (.invokevirtual 431, 3) := dk_182 1 175 (dk_at dksX2_findApart_5 19 rfl rfl)
theorem dX2_findApart_141 : decode cX2_findApart 141 = .ok (.aload_n 0, 1) := dk_42 (dk_at dksX2_findApart_5 22 rfl rfl)
theorem dX2_findApart_142 : decode cX2_findApart 142 = .ok (.getfield 142, 3) := dk_180 0 142 (dk_at dksX2_findApart_6 0 rfl rfl)
theorem dX2_findApart_145 : decode cX2_findApart 145 = .ok (.iload 4, 2) := dk_21 4 (dk_at dksX2_findApart_6 3 rfl rfl)
theorem dX2_findApart_147 : decode cX2_findApart 147 = .ok (.iaload, 1) := dk_46 (dk_at dksX2_findApart_6 5 rfl rfl)
theorem dX2_findApart_148 : decode cX2_findApart 148 = .ok (.aload_n 0, 1) := dk_42 (dk_at dksX2_findApart_6 6 rfl rfl)
theorem dX2_findApart_149 : decode cX2_findApart 149 = .ok (.getfield 381, 3) := dk_180 1 125 (dk_at dksX2_findApart_6 7 rfl rfl)
theorem dX2_findApart_152 : decode cX2_findApart 152 = .ok (.ifCond .eq 10, 3) := dk_153 0 10 (dk_at dksX2_findApart_6 10 rfl rfl)
theorem dX2_findApart_155 : decode cX2_findApart 155 = .ok (.aload_n 0, 1) := dk_42 (dk_at dksX2_findApart_6 13 rfl rfl)
theorem dX2_findApart_156 : decode cX2_findApart 156 = .ok (.getfield 384, 3) := dk_180 1 128 (dk_at dksX2_findApart_6 14 rfl rfl)
theorem dX2_findApart_159 : decode cX2_findApart 159 = .ok (.goto 4, 3) := dk_167 0 4 (dk_at dksX2_findApart_6 17 rfl rfl)
theorem dX2_findApart_162 : decode cX2_findApart 162 = .ok (.iconst (-1), 1) := dk_2 (dk_at dksX2_findApart_6 20 rfl rfl)
theorem dX2_findApart_163 : decode cX2_findApart 163 = .ok (.if_icmp .eq 7, 3) := dk_159 0 7 (dk_at dksX2_findApart_6 21 rfl rfl)
theorem dX2_findApart_166 : decode cX2_findApart 166 = .ok (.iconst 1, 1) := dk_4 (dk_at dksX2_findApart_7 0 rfl rfl)
theorem dX2_findApart_167 : decode cX2_findApart 167 = .ok (.goto 4, 3) := dk_167 0 4 (dk_at dksX2_findApart_7 1 rfl rfl)
theorem dX2_findApart_170 : decode cX2_findApart 170 = .ok (.iconst 0, 1) := dk_3 (dk_at dksX2_findApart_7 4 rfl rfl)
theorem dX2_findApart_171 : decode cX2_findApart 171 = .ok (.istore 5, 2) := dk_54 5 (dk_at dksX2_findApart_7 5 rfl rfl)
theorem dX2_findApart_173 : decode cX2_findApart 173 = .ok (.iconst 0, 1) := dk_3 (dk_at dksX2_findApart_7 7 rfl rfl)
theorem dX2_findApart_174 : decode cX2_findApart 174 = .ok (.istore 6, 2) := dk_54 6 (dk_at dksX2_findApart_7 8 rfl rfl)
theorem dX2_findApart_176 : decode cX2_findApart 176 = .ok (.iload 6, 2) := dk_21 6 (dk_at dksX2_findApart_7 10 rfl rfl)
theorem dX2_findApart_178 : decode cX2_findApart 178 = .ok (.iconst 5, 1) := dk_8 (dk_at dksX2_findApart_7 12 rfl rfl)
theorem dX2_findApart_179 : decode cX2_findApart 179 = .ok (.if_icmp .ge 49, 3) := dk_162 0 49 (dk_at dksX2_findApart_7 13 rfl rfl)
theorem dX2_findApart_182 : decode cX2_findApart 182 = .ok (.aload_n 0, 1) := dk_42 (dk_at dksX2_findApart_7 16 rfl rfl)
theorem dX2_findApart_183 : decode cX2_findApart 183 = .ok (.getfield 381, 3) := dk_180 1 125 (dk_at dksX2_findApart_7 17 rfl rfl)
theorem dX2_findApart_186 : decode cX2_findApart 186 = .ok (.ifCond .eq 42, 3) := dk_153 0 42 (dk_at dksX2_findApart_7 20 rfl rfl)
theorem dX2_findApart_189 : decode cX2_findApart 189 = .ok (.iload 5, 2) := dk_21 5 (dk_at dksX2_findApart_8 0 rfl rfl)
theorem dX2_findApart_191 : decode cX2_findApart 191 = .ok (.ifCond .ne 24, 3) := dk_154 0 24 (dk_at dksX2_findApart_8 2 rfl rfl)
theorem dX2_findApart_194 : decode cX2_findApart 194 = .ok (.aload_n 0, 1) := dk_42 (dk_at dksX2_findApart_8 5 rfl rfl)
theorem dX2_findApart_195 : decode cX2_findApart 195 = .ok (.getfield 145, 3) := dk_180 0 145 (dk_at dksX2_findApart_8 6 rfl rfl)
theorem dX2_findApart_198 : decode cX2_findApart 198 = .ok (.iconst 5, 1) := dk_8 (dk_at dksX2_findApart_8 9 rfl rfl)
theorem dX2_findApart_199 : decode cX2_findApart 199 = .ok (.iload 4, 2) := dk_21 4 (dk_at dksX2_findApart_8 10 rfl rfl)
theorem dX2_findApart_201 : decode cX2_findApart 201 = .ok (.imul, 1) := dk_104 (dk_at dksX2_findApart_8 12 rfl rfl)
theorem dX2_findApart_202 : decode cX2_findApart 202 = .ok (.iload 6, 2) := dk_21 6 (dk_at dksX2_findApart_8 13 rfl rfl)
theorem dX2_findApart_204 : decode cX2_findApart 204 = .ok (.iadd, 1) := dk_96 (dk_at dksX2_findApart_8 15 rfl rfl)
theorem dX2_findApart_205 : decode cX2_findApart 205 = .ok (.iaload, 1) := dk_46 (dk_at dksX2_findApart_8 16 rfl rfl)
theorem dX2_findApart_206 : decode cX2_findApart 206 = .ok (.aload_n 0, 1) := dk_42 (dk_at dksX2_findApart_8 17 rfl rfl)
theorem dX2_findApart_207 : decode cX2_findApart 207 = .ok (.iload 6, 2) := dk_21 6 (dk_at dksX2_findApart_8 18 rfl rfl)
theorem dX2_findApart_209 : decode cX2_findApart 209 = .ok (.invokevirtual 449, 3) := dk_182 1 193 (dk_at dksX2_findApart_8 20 rfl rfl)
theorem dX2_findApart_212 : decode cX2_findApart 212 = .ok (.if_icmp .eq 7, 3) := dk_159 0 7 (dk_at dksX2_findApart_9 0 rfl rfl)
theorem dX2_findApart_215 : decode cX2_findApart 215 = .ok (.iconst 1, 1) := dk_4 (dk_at dksX2_findApart_9 3 rfl rfl)
theorem dX2_findApart_216 : decode cX2_findApart 216 = .ok (.goto 4, 3) := dk_167 0 4 (dk_at dksX2_findApart_9 4 rfl rfl)
theorem dX2_findApart_219 : decode cX2_findApart 219 = .ok (.iconst 0, 1) := dk_3 (dk_at dksX2_findApart_9 7 rfl rfl)
theorem dX2_findApart_220 : decode cX2_findApart 220 = .ok (.istore 5, 2) := dk_54 5 (dk_at dksX2_findApart_9 8 rfl rfl)
theorem dX2_findApart_222 : decode cX2_findApart 222 = .ok (.iinc 6 1, 3) := dk_132 6 1 (dk_at dksX2_findApart_9 10 rfl rfl)
theorem dX2_findApart_225 : decode cX2_findApart 225 = .ok (.goto (-49), 3) := dk_167 255 207 (dk_at dksX2_findApart_9 13 rfl rfl)
theorem dX2_findApart_228 : decode cX2_findApart 228 = .ok (.iload 5, 2) := dk_21 5 (dk_at dksX2_findApart_9 16 rfl rfl)
theorem dX2_findApart_230 : decode cX2_findApart 230 = .ok (.ifCond .ne 6, 3) := dk_154 0 6 (dk_at dksX2_findApart_9 18 rfl rfl)
theorem dX2_findApart_233 : decode cX2_findApart 233 = .ok (.goto 26, 3) := dk_167 0 26 (dk_at dksX2_findApart_9 21 rfl rfl)
theorem dX2_findApart_236 : decode cX2_findApart 236 = .ok (.aload_n 0, 1) := dk_42 (dk_at dksX2_findApart_10 0 rfl rfl)
theorem dX2_findApart_237 : decode cX2_findApart 237 = .ok (.dup, 1) := dk_89 (dk_at dksX2_findApart_10 1 rfl rfl)
theorem dX2_findApart_238 : decode cX2_findApart 238 = .ok (.getfield 461, 3) := dk_180 1 205 (dk_at dksX2_findApart_10 2 rfl rfl)
theorem dX2_findApart_241 : decode cX2_findApart 241 = .ok (.iconst 1, 1) := dk_4 (dk_at dksX2_findApart_10 5 rfl rfl)
theorem dX2_findApart_242 : decode cX2_findApart 242 = .ok (.iadd, 1) := dk_96 (dk_at dksX2_findApart_10 6 rfl rfl)
theorem dX2_findApart_243 : decode cX2_findApart 243 = .ok (.putfield 461, 3) := dk_181 1 205 (dk_at dksX2_findApart_10 7 rfl rfl)
theorem dX2_findApart_246 : decode cX2_findApart 246 = .ok (.aload_n 0, 1) := dk_42 (dk_at dksX2_findApart_10 10 rfl rfl)
theorem dX2_findApart_247 : decode cX2_findApart 247 = .ok (.getfield 464, 3) := dk_180 1 208 (dk_at dksX2_findApart_10 11 rfl rfl)
theorem dX2_findApart_250 : decode cX2_findApart 250 = .ok (.ifCond .ge 9, 3) := dk_156 0 9 (dk_at dksX2_findApart_10 14 rfl rfl)
theorem dX2_findApart_253 : decode cX2_findApart 253 = .ok (.aload_n 0, 1) := dk_42 (dk_at dksX2_findApart_10 17 rfl rfl)
theorem dX2_findApart_254 : decode cX2_findApart 254 = .ok (.iload 4, 2) := dk_21 4 (dk_at dksX2_findApart_10 18 rfl rfl)
theorem dX2_findApart_256 : decode cX2_findApart 256 = .ok (.putfield 464, 3) := dk_181 1 208 (dk_at dksX2_findApart_10 20 rfl rfl)
theorem dX2_findApart_259 : decode cX2_findApart 259 = .ok (.iinc 4 1, 3) := dk_132 4 1 (dk_at dksX2_findApart_11 0 rfl rfl)
theorem dX2_findApart_262 : decode cX2_findApart 262 = .ok (.goto (-136), 3) := dk_167 255 120 (dk_at dksX2_findApart_11 3 rfl rfl)
theorem dX2_findApart_265 : decode cX2_findApart 265 = .ok (.iconst 1, 1) := dk_4 (dk_at dksX2_findApart_11 6 rfl rfl)
theorem dX2_findApart_266 : decode cX2_findApart 266 = .ok (.ireturn, 1) := dk_172 (dk_at dksX2_findApart_11 7 rfl rfl)
abbrev cX2_part : ByteArray := prog_23_method_78_code
def yX2_part : MethodName := ⟨RX2, "part", "(II)I"⟩
def dkwX2_part_3 : List UInt8 := [158, 0, 6, 21, 4, 62, 132, 4, 1, 167, 255, 201, 29, 172]
abbrev dktX2_part_3 : List UInt8 := dkwX2_part_3 ++ []
def dkwX2_part_2 : List UInt8 := [180, 0, 19, 29, 46, 162, 0, 24, 42, 21, 4, 27, 28, 182, 1, 211, 153, 0, 13, 42, 180, 1, 205]
abbrev dktX2_part_2 : List UInt8 := dkwX2_part_2 ++ dktX2_part_3
def dkwX2_part_1 : List UInt8 := [21, 4, 42, 180, 0, 7, 3, 46, 162, 0, 50, 29, 155, 0, 19, 42, 180, 0, 19, 21, 4, 46, 42]
abbrev dktX2_part_1 : List UInt8 := dkwX2_part_1 ++ dktX2_part_2
def dkwX2_part_0 : List UInt8 := [42, 27, 182, 1, 89, 153, 0, 11, 42, 28, 182, 1, 89, 154, 0, 6, 16, 254, 172, 2, 62, 3, 54, 4]
abbrev dktX2_part_0 : List UInt8 := dkwX2_part_0 ++ dktX2_part_1
theorem dksX2_part_0 : cX2_part.data.toList.drop 0 = dktX2_part_0 := by decide +kernel
theorem dksX2_part_1 : cX2_part.data.toList.drop 24 = dktX2_part_1 := dk_seg dksX2_part_0 24 rfl rfl
theorem dksX2_part_2 : cX2_part.data.toList.drop 47 = dktX2_part_2 := dk_seg dksX2_part_1 23 rfl rfl
theorem dksX2_part_3 : cX2_part.data.toList.drop 70 = dktX2_part_3 := dk_seg dksX2_part_2 23 rfl rfl
theorem dX2_part_0 : decode cX2_part 0 = .ok (.aload_n 0, 1) := dk_42 (dk_at dksX2_part_0 0 rfl rfl)
theorem dX2_part_1 : decode cX2_part 1 = .ok (.iload_n 1, 1) := dk_27 (dk_at dksX2_part_0 1 rfl rfl)
theorem dX2_part_2 : decode cX2_part 2 = .ok (.invokevirtual 345, 3) := dk_182 1 89 (dk_at dksX2_part_0 2 rfl rfl)
theorem dX2_part_5 : decode cX2_part 5 = .ok (.ifCond .eq 11, 3) := dk_153 0 11 (dk_at dksX2_part_0 5 rfl rfl)
theorem dX2_part_8 : decode cX2_part 8 = .ok (.aload_n 0, 1) := dk_42 (dk_at dksX2_part_0 8 rfl rfl)
theorem dX2_part_9 : decode cX2_part 9 = .ok (.iload_n 2, 1) := dk_28 (dk_at dksX2_part_0 9 rfl rfl)
theorem dX2_part_10 : decode cX2_part 10 = .ok (.invokevirtual 345, 3) := dk_182 1 89 (dk_at dksX2_part_0 10 rfl rfl)
theorem dX2_part_13 : decode cX2_part 13 = .ok (.ifCond .ne 6, 3) := dk_154 0 6 (dk_at dksX2_part_0 13 rfl rfl)
theorem dX2_part_16 : decode cX2_part 16 = .ok (.bipush (-2), 2) := dk_16 254 (dk_at dksX2_part_0 16 rfl rfl)
theorem dX2_part_18 : decode cX2_part 18 = .ok (.ireturn, 1) := dk_172 (dk_at dksX2_part_0 18 rfl rfl)
theorem dX2_part_19 : decode cX2_part 19 = .ok (.iconst (-1), 1) := dk_2 (dk_at dksX2_part_0 19 rfl rfl)
theorem dX2_part_20 : decode cX2_part 20 = .ok (.istore_n 3, 1) := dk_62 (dk_at dksX2_part_0 20 rfl rfl)
theorem dX2_part_21 : decode cX2_part 21 = .ok (.iconst 0, 1) := dk_3 (dk_at dksX2_part_0 21 rfl rfl)
theorem dX2_part_22 : decode cX2_part 22 = .ok (.istore 4, 2) := dk_54 4 (dk_at dksX2_part_0 22 rfl rfl)
theorem dX2_part_24 : decode cX2_part 24 = .ok (.iload 4, 2) := dk_21 4 (dk_at dksX2_part_1 0 rfl rfl)
theorem dX2_part_26 : decode cX2_part 26 = .ok (.aload_n 0, 1) := dk_42 (dk_at dksX2_part_1 2 rfl rfl)
theorem dX2_part_27 : decode cX2_part 27 = .ok (.getfield 7, 3) := dk_180 0 7 (dk_at dksX2_part_1 3 rfl rfl)
theorem dX2_part_30 : decode cX2_part 30 = .ok (.iconst 0, 1) := dk_3 (dk_at dksX2_part_1 6 rfl rfl)
theorem dX2_part_31 : decode cX2_part 31 = .ok (.iaload, 1) := dk_46 (dk_at dksX2_part_1 7 rfl rfl)
theorem dX2_part_32 : decode cX2_part 32 = .ok (.if_icmp .ge 50, 3) := dk_162 0 50 (dk_at dksX2_part_1 8 rfl rfl)
theorem dX2_part_35 : decode cX2_part 35 = .ok (.iload_n 3, 1) := dk_29 (dk_at dksX2_part_1 11 rfl rfl)
theorem dX2_part_36 : decode cX2_part 36 = .ok (.ifCond .lt 19, 3) := dk_155 0 19 (dk_at dksX2_part_1 12 rfl rfl)
theorem dX2_part_39 : decode cX2_part 39 = .ok (.aload_n 0, 1) := dk_42 (dk_at dksX2_part_1 15 rfl rfl)
theorem dX2_part_40 : decode cX2_part 40 = .ok (.getfield 19, 3) := dk_180 0 19 (dk_at dksX2_part_1 16 rfl rfl)
theorem dX2_part_43 : decode cX2_part 43 = .ok (.iload 4, 2) := dk_21 4 (dk_at dksX2_part_1 19 rfl rfl)
theorem dX2_part_45 : decode cX2_part 45 = .ok (.iaload, 1) := dk_46 (dk_at dksX2_part_1 21 rfl rfl)
theorem dX2_part_46 : decode cX2_part 46 = .ok (.aload_n 0, 1) := dk_42 (dk_at dksX2_part_1 22 rfl rfl)
theorem dX2_part_47 : decode cX2_part 47 = .ok (.getfield 19, 3) := dk_180 0 19 (dk_at dksX2_part_2 0 rfl rfl)
theorem dX2_part_50 : decode cX2_part 50 = .ok (.iload_n 3, 1) := dk_29 (dk_at dksX2_part_2 3 rfl rfl)
theorem dX2_part_51 : decode cX2_part 51 = .ok (.iaload, 1) := dk_46 (dk_at dksX2_part_2 4 rfl rfl)
theorem dX2_part_52 : decode cX2_part 52 = .ok (.if_icmp .ge 24, 3) := dk_162 0 24 (dk_at dksX2_part_2 5 rfl rfl)
theorem dX2_part_55 : decode cX2_part 55 = .ok (.aload_n 0, 1) := dk_42 (dk_at dksX2_part_2 8 rfl rfl)
theorem dX2_part_56 : decode cX2_part 56 = .ok (.iload 4, 2) := dk_21 4 (dk_at dksX2_part_2 9 rfl rfl)
theorem dX2_part_58 : decode cX2_part 58 = .ok (.iload_n 1, 1) := dk_27 (dk_at dksX2_part_2 11 rfl rfl)
theorem dX2_part_59 : decode cX2_part 59 = .ok (.iload_n 2, 1) := dk_28 (dk_at dksX2_part_2 12 rfl rfl)
theorem dX2_part_60 : decode cX2_part 60 = .ok (.invokevirtual 467, 3) := dk_182 1 211 (dk_at dksX2_part_2 13 rfl rfl)
theorem dX2_part_63 : decode cX2_part 63 = .ok (.ifCond .eq 13, 3) := dk_153 0 13 (dk_at dksX2_part_2 16 rfl rfl)
theorem dX2_part_66 : decode cX2_part 66 = .ok (.aload_n 0, 1) := dk_42 (dk_at dksX2_part_2 19 rfl rfl)
theorem dX2_part_67 : decode cX2_part 67 = .ok (.getfield 461, 3) := dk_180 1 205 (dk_at dksX2_part_2 20 rfl rfl)
theorem dX2_part_70 : decode cX2_part 70 = .ok (.ifCond .le 6, 3) := dk_158 0 6 (dk_at dksX2_part_3 0 rfl rfl)
theorem dX2_part_73 : decode cX2_part 73 = .ok (.iload 4, 2) := dk_21 4 (dk_at dksX2_part_3 3 rfl rfl)
theorem dX2_part_75 : decode cX2_part 75 = .ok (.istore_n 3, 1) := dk_62 (dk_at dksX2_part_3 5 rfl rfl)
theorem dX2_part_76 : decode cX2_part 76 = .ok (.iinc 4 1, 3) := dk_132 4 1 (dk_at dksX2_part_3 6 rfl rfl)
theorem dX2_part_79 : decode cX2_part 79 = .ok (.goto (-55), 3) := dk_167 255 201 (dk_at dksX2_part_3 9 rfl rfl)
theorem dX2_part_82 : decode cX2_part 82 = .ok (.iload_n 3, 1) := dk_29 (dk_at dksX2_part_3 12 rfl rfl)
theorem dX2_part_83 : decode cX2_part 83 = .ok (.ireturn, 1) := dk_172 (dk_at dksX2_part_3 13 rfl rfl)
abbrev cX2_write : ByteArray := prog_23_method_80_code
def yX2_write : MethodName := ⟨RX2, "write", "(I)I"⟩
def dkwX2_write_3 : List UInt8 := [172]
abbrev dktX2_write_3 : List UInt8 := dkwX2_write_3 ++ []
def dkwX2_write_2 : List UInt8 := [184, 1, 199, 162, 0, 14, 42, 27, 29, 182, 1, 214, 153, 0, 5, 29, 61, 132, 3, 1, 167, 255, 215, 28]
abbrev dktX2_write_2 : List UInt8 := dkwX2_write_2 ++ dktX2_write_3
def dkwX2_write_1 : List UInt8 := [3, 62, 29, 4, 42, 180, 0, 16, 3, 46, 120, 162, 0, 35, 28, 155, 0, 14, 29, 184, 1, 199, 28]
abbrev dktX2_write_1 : List UInt8 := dkwX2_write_1 ++ dktX2_write_2
def dkwX2_write_0 : List UInt8 := [42, 180, 0, 13, 3, 46, 153, 0, 13, 42, 27, 3, 3, 182, 1, 190, 154, 0, 6, 16, 254, 172, 2, 61]
abbrev dktX2_write_0 : List UInt8 := dkwX2_write_0 ++ dktX2_write_1
theorem dksX2_write_0 : cX2_write.data.toList.drop 0 = dktX2_write_0 := by decide +kernel
theorem dksX2_write_1 : cX2_write.data.toList.drop 24 = dktX2_write_1 := dk_seg dksX2_write_0 24 rfl rfl
theorem dksX2_write_2 : cX2_write.data.toList.drop 47 = dktX2_write_2 := dk_seg dksX2_write_1 23 rfl rfl
theorem dksX2_write_3 : cX2_write.data.toList.drop 71 = dktX2_write_3 := dk_seg dksX2_write_2 24 rfl rfl
theorem dX2_write_0 : decode cX2_write 0 = .ok (.aload_n 0, 1) := dk_42 (dk_at dksX2_write_0 0 rfl rfl)
theorem dX2_write_1 : decode cX2_write 1 = .ok (.getfield 13, 3) := dk_180 0 13 (dk_at dksX2_write_0 1 rfl rfl)
theorem dX2_write_4 : decode cX2_write 4 = .ok (.iconst 0, 1) := dk_3 (dk_at dksX2_write_0 4 rfl rfl)
theorem dX2_write_5 : decode cX2_write 5 = .ok (.iaload, 1) := dk_46 (dk_at dksX2_write_0 5 rfl rfl)
theorem dX2_write_6 : decode cX2_write 6 = .ok (.ifCond .eq 13, 3) := dk_153 0 13 (dk_at dksX2_write_0 6 rfl rfl)
theorem dX2_write_9 : decode cX2_write 9 = .ok (.aload_n 0, 1) := dk_42 (dk_at dksX2_write_0 9 rfl rfl)
theorem dX2_write_10 : decode cX2_write 10 = .ok (.iload_n 1, 1) := dk_27 (dk_at dksX2_write_0 10 rfl rfl)
theorem dX2_write_11 : decode cX2_write 11 = .ok (.iconst 0, 1) := dk_3 (dk_at dksX2_write_0 11 rfl rfl)
theorem dX2_write_12 : decode cX2_write 12 = .ok (.iconst 0, 1) := dk_3 (dk_at dksX2_write_0 12 rfl rfl)
theorem dX2_write_13 : decode cX2_write 13 = .ok (.invokevirtual 446, 3) := dk_182 1 190 (dk_at dksX2_write_0 13 rfl rfl)
theorem dX2_write_16 : decode cX2_write 16 = .ok (.ifCond .ne 6, 3) := dk_154 0 6 (dk_at dksX2_write_0 16 rfl rfl)
theorem dX2_write_19 : decode cX2_write 19 = .ok (.bipush (-2), 2) := dk_16 254 (dk_at dksX2_write_0 19 rfl rfl)
theorem dX2_write_21 : decode cX2_write 21 = .ok (.ireturn, 1) := dk_172 (dk_at dksX2_write_0 21 rfl rfl)
theorem dX2_write_22 : decode cX2_write 22 = .ok (.iconst (-1), 1) := dk_2 (dk_at dksX2_write_0 22 rfl rfl)
theorem dX2_write_23 : decode cX2_write 23 = .ok (.istore_n 2, 1) := dk_61 (dk_at dksX2_write_0 23 rfl rfl)
theorem dX2_write_24 : decode cX2_write 24 = .ok (.iconst 0, 1) := dk_3 (dk_at dksX2_write_1 0 rfl rfl)
theorem dX2_write_25 : decode cX2_write 25 = .ok (.istore_n 3, 1) := dk_62 (dk_at dksX2_write_1 1 rfl rfl)
theorem dX2_write_26 : decode cX2_write 26 = .ok (.iload_n 3, 1) := dk_29 (dk_at dksX2_write_1 2 rfl rfl)
theorem dX2_write_27 : decode cX2_write 27 = .ok (.iconst 1, 1) := dk_4 (dk_at dksX2_write_1 3 rfl rfl)
theorem dX2_write_28 : decode cX2_write 28 = .ok (.aload_n 0, 1) := dk_42 (dk_at dksX2_write_1 4 rfl rfl)
theorem dX2_write_29 : decode cX2_write 29 = .ok (.getfield 16, 3) := dk_180 0 16 (dk_at dksX2_write_1 5 rfl rfl)
theorem dX2_write_32 : decode cX2_write 32 = .ok (.iconst 0, 1) := dk_3 (dk_at dksX2_write_1 8 rfl rfl)
theorem dX2_write_33 : decode cX2_write 33 = .ok (.iaload, 1) := dk_46 (dk_at dksX2_write_1 9 rfl rfl)
theorem dX2_write_34 : decode cX2_write 34 = .ok (.ishl, 1) := dk_120 (dk_at dksX2_write_1 10 rfl rfl)
theorem dX2_write_35 : decode cX2_write 35 = .ok (.if_icmp .ge 35, 3) := dk_162 0 35 (dk_at dksX2_write_1 11 rfl rfl)
theorem dX2_write_38 : decode cX2_write 38 = .ok (.iload_n 2, 1) := dk_28 (dk_at dksX2_write_1 14 rfl rfl)
theorem dX2_write_39 : decode cX2_write 39 = .ok (.ifCond .lt 14, 3) := dk_155 0 14 (dk_at dksX2_write_1 15 rfl rfl)
theorem dX2_write_42 : decode cX2_write 42 = .ok (.iload_n 3, 1) := dk_29 (dk_at dksX2_write_1 18 rfl rfl)
theorem dX2_write_43 : decode cX2_write 43 = .ok (.invokestatic 455, 3) := dk_184 1 199 (dk_at dksX2_write_1 19 rfl rfl)
theorem dX2_write_46 : decode cX2_write 46 = .ok (.iload_n 2, 1) := dk_28 (dk_at dksX2_write_1 22 rfl rfl)
theorem dX2_write_47 : decode cX2_write 47 = .ok (.invokestatic 455, 3) := dk_184 1 199 (dk_at dksX2_write_2 0 rfl rfl)
theorem dX2_write_50 : decode cX2_write 50 = .ok (.if_icmp .ge 14, 3) := dk_162 0 14 (dk_at dksX2_write_2 3 rfl rfl)
theorem dX2_write_53 : decode cX2_write 53 = .ok (.aload_n 0, 1) := dk_42 (dk_at dksX2_write_2 6 rfl rfl)
theorem dX2_write_54 : decode cX2_write 54 = .ok (.iload_n 1, 1) := dk_27 (dk_at dksX2_write_2 7 rfl rfl)
theorem dX2_write_55 : decode cX2_write 55 = .ok (.iload_n 3, 1) := dk_29 (dk_at dksX2_write_2 8 rfl rfl)
theorem dX2_write_56 : decode cX2_write 56 = .ok (.invokevirtual 470, 3) := dk_182 1 214 (dk_at dksX2_write_2 9 rfl rfl)
theorem dX2_write_59 : decode cX2_write 59 = .ok (.ifCond .eq 5, 3) := dk_153 0 5 (dk_at dksX2_write_2 12 rfl rfl)
theorem dX2_write_62 : decode cX2_write 62 = .ok (.iload_n 3, 1) := dk_29 (dk_at dksX2_write_2 15 rfl rfl)
theorem dX2_write_63 : decode cX2_write 63 = .ok (.istore_n 2, 1) := dk_61 (dk_at dksX2_write_2 16 rfl rfl)
theorem dX2_write_64 : decode cX2_write 64 = .ok (.iinc 3 1, 3) := dk_132 3 1 (dk_at dksX2_write_2 17 rfl rfl)
theorem dX2_write_67 : decode cX2_write 67 = .ok (.goto (-41), 3) := dk_167 255 215 (dk_at dksX2_write_2 20 rfl rfl)
theorem dX2_write_70 : decode cX2_write 70 = .ok (.iload_n 2, 1) := dk_28 (dk_at dksX2_write_2 23 rfl rfl)
theorem dX2_write_71 : decode cX2_write 71 = .ok (.ireturn, 1) := dk_172 (dk_at dksX2_write_3 0 rfl rfl)
abbrev cX2_isWritten : ByteArray := prog_23_method_79_code
def yX2_isWritten : MethodName := ⟨RX2, "isWritten", "(II)Z"⟩
def dkwX2_isWritten_1 : List UInt8 := [182, 1, 181, 154, 0, 5, 3, 172, 132, 3, 1, 167, 255, 223, 4, 172]
abbrev dktX2_isWritten_1 : List UInt8 := dkwX2_isWritten_1 ++ []
def dkwX2_isWritten_0 : List UInt8 := [3, 62, 29, 42, 180, 0, 13, 3, 46, 162, 0, 29, 42, 29, 28, 182, 1, 92, 42, 27, 182, 1, 184, 42]
abbrev dktX2_isWritten_0 : List UInt8 := dkwX2_isWritten_0 ++ dktX2_isWritten_1
theorem dksX2_isWritten_0 : cX2_isWritten.data.toList.drop 0 = dktX2_isWritten_0 := by decide +kernel
theorem dksX2_isWritten_1 : cX2_isWritten.data.toList.drop 24 = dktX2_isWritten_1 := dk_seg dksX2_isWritten_0 24 rfl rfl
theorem dX2_isWritten_0 : decode cX2_isWritten 0 = .ok (.iconst 0, 1) := dk_3 (dk_at dksX2_isWritten_0 0 rfl rfl)
theorem dX2_isWritten_1 : decode cX2_isWritten 1 = .ok (.istore_n 3, 1) := dk_62 (dk_at dksX2_isWritten_0 1 rfl rfl)
theorem dX2_isWritten_2 : decode cX2_isWritten 2 = .ok (.iload_n 3, 1) := dk_29 (dk_at dksX2_isWritten_0 2 rfl rfl)
theorem dX2_isWritten_3 : decode cX2_isWritten 3 = .ok (.aload_n 0, 1) := dk_42 (dk_at dksX2_isWritten_0 3 rfl rfl)
theorem dX2_isWritten_4 : decode cX2_isWritten 4 = .ok (.getfield 13, 3) := dk_180 0 13 (dk_at dksX2_isWritten_0 4 rfl rfl)
theorem dX2_isWritten_7 : decode cX2_isWritten 7 = .ok (.iconst 0, 1) := dk_3 (dk_at dksX2_isWritten_0 7 rfl rfl)
theorem dX2_isWritten_8 : decode cX2_isWritten 8 = .ok (.iaload, 1) := dk_46 (dk_at dksX2_isWritten_0 8 rfl rfl)
theorem dX2_isWritten_9 : decode cX2_isWritten 9 = .ok (.if_icmp .ge 29, 3) := dk_162 0 29 (dk_at dksX2_isWritten_0 9 rfl rfl)
theorem dX2_isWritten_12 : decode cX2_isWritten 12 = .ok (.aload_n 0, 1) := dk_42 (dk_at dksX2_isWritten_0 12 rfl rfl)
theorem dX2_isWritten_13 : decode cX2_isWritten 13 = .ok (.iload_n 3, 1) := dk_29 (dk_at dksX2_isWritten_0 13 rfl rfl)
theorem dX2_isWritten_14 : decode cX2_isWritten 14 = .ok (.iload_n 2, 1) := dk_28 (dk_at dksX2_isWritten_0 14 rfl rfl)
theorem dX2_isWritten_15 : decode cX2_isWritten 15 = .ok (.invokevirtual 348, 3) := dk_182 1 92 (dk_at dksX2_isWritten_0 15 rfl rfl)
theorem dX2_isWritten_18 : decode cX2_isWritten 18 = .ok (.aload_n 0, 1) := dk_42 (dk_at dksX2_isWritten_0 18 rfl rfl)
theorem dX2_isWritten_19 : decode cX2_isWritten 19 = .ok (.iload_n 1, 1) := dk_27 (dk_at dksX2_isWritten_0 19 rfl rfl)
theorem dX2_isWritten_20 : decode cX2_isWritten 20 = .ok (.invokevirtual 440, 3) := dk_182 1 184 (dk_at dksX2_isWritten_0 20 rfl rfl)
theorem dX2_isWritten_23 : decode cX2_isWritten 23 = .ok (.aload_n 0, 1) := dk_42 (dk_at dksX2_isWritten_0 23 rfl rfl)
theorem dX2_isWritten_24 : decode cX2_isWritten 24 = .ok (.invokevirtual 437, 3) := dk_182 1 181 (dk_at dksX2_isWritten_1 0 rfl rfl)
theorem dX2_isWritten_27 : decode cX2_isWritten 27 = .ok (.ifCond .ne 5, 3) := dk_154 0 5 (dk_at dksX2_isWritten_1 3 rfl rfl)
theorem dX2_isWritten_30 : decode cX2_isWritten 30 = .ok (.iconst 0, 1) := dk_3 (dk_at dksX2_isWritten_1 6 rfl rfl)
theorem dX2_isWritten_31 : decode cX2_isWritten 31 = .ok (.ireturn, 1) := dk_172 (dk_at dksX2_isWritten_1 7 rfl rfl)
theorem dX2_isWritten_32 : decode cX2_isWritten 32 = .ok (.iinc 3 1, 3) := dk_132 3 1 (dk_at dksX2_isWritten_1 8 rfl rfl)
theorem dX2_isWritten_35 : decode cX2_isWritten 35 = .ok (.goto (-33), 3) := dk_167 255 223 (dk_at dksX2_isWritten_1 11 rfl rfl)
theorem dX2_isWritten_38 : decode cX2_isWritten 38 = .ok (.iconst 1, 1) := dk_4 (dk_at dksX2_isWritten_1 14 rfl rfl)
theorem dX2_isWritten_39 : decode cX2_isWritten 39 = .ok (.ireturn, 1) := dk_172 (dk_at dksX2_isWritten_1 15 rfl rfl)
abbrev cX2_does : ByteArray := prog_23_method_81_code
def yX2_does : MethodName := ⟨RX2, "does", "(IIII)I"⟩
def dkwX2_does_11 : List UInt8 := [182, 1, 140, 162, 0, 8, 16, 8, 167, 0, 4, 3, 128, 54, 5, 21, 5, 172]
abbrev dktX2_does_11 : List UInt8 := dkwX2_does_11 ++ []
def dkwX2_does_10 : List UInt8 := [180, 0, 66, 7, 46, 182, 1, 107, 54, 7, 21, 5, 21, 7, 155, 0, 19, 21, 7, 42, 21, 6]
abbrev dktX2_does_10 : List UInt8 := dkwX2_does_10 ++ dktX2_does_11
def dkwX2_does_9 : List UInt8 := [180, 0, 69, 21, 4, 46, 8, 160, 0, 53, 42, 21, 6, 182, 1, 137, 153, 0, 44, 42, 21, 4, 42]
abbrev dktX2_does_9 : List UInt8 := dkwX2_does_9 ++ dktX2_does_10
def dkwX2_does_8 : List UInt8 := [180, 1, 125, 153, 0, 16, 42, 180, 1, 131, 21, 4, 160, 0, 7, 7, 167, 0, 4, 3, 128, 54, 5, 42]
abbrev dktX2_does_8 : List UInt8 := dkwX2_does_8 ++ dktX2_does_9
def dkwX2_does_7 : List UInt8 := [167, 255, 202, 21, 5, 21, 7, 21, 4, 160, 0, 7, 5, 167, 0, 4, 3, 128, 54, 5, 21, 5, 42]
abbrev dktX2_does_7 : List UInt8 := dkwX2_does_7 ++ dktX2_does_8
def dkwX2_does_6 : List UInt8 := [21, 6, 182, 1, 122, 42, 180, 0, 124, 21, 6, 46, 160, 0, 7, 21, 8, 54, 7, 132, 8, 255]
abbrev dktX2_does_6 : List UInt8 := dkwX2_does_6 ++ dktX2_does_7
def dkwX2_does_5 : List UInt8 := [180, 0, 127, 21, 6, 46, 4, 160, 0, 14, 42, 21, 8, 21, 6, 182, 1, 116, 167, 0, 11, 42, 21, 8]
abbrev dktX2_does_5 : List UInt8 := dkwX2_does_5 ++ dktX2_does_6
def dkwX2_does_4 : List UInt8 := [162, 0, 88, 2, 54, 7, 42, 180, 1, 95, 4, 100, 54, 8, 21, 8, 21, 6, 164, 0, 53, 42]
abbrev dktX2_does_4 : List UInt8 := dkwX2_does_4 ++ dktX2_does_5
def dkwX2_does_3 : List UInt8 := [182, 1, 113, 153, 0, 109, 42, 180, 0, 127, 21, 6, 46, 158, 0, 99, 42, 180, 0, 127, 21, 6, 46, 6]
abbrev dktX2_does_3 : List UInt8 := dkwX2_does_3 ++ dktX2_does_4
def dkwX2_does_2 : List UInt8 := [167, 0, 4, 3, 54, 5, 42, 180, 0, 81, 21, 4, 46, 54, 6, 21, 6, 155, 0, 118, 42, 21, 6]
abbrev dktX2_does_2 : List UInt8 := dkwX2_does_2 ++ dktX2_does_3
def dkwX2_does_1 : List UInt8 := [16, 254, 172, 42, 21, 4, 182, 1, 113, 153, 0, 17, 42, 180, 0, 121, 21, 4, 46, 155, 0, 7, 4]
abbrev dktX2_does_1 : List UInt8 := dkwX2_does_1 ++ dktX2_does_2
def dkwX2_does_0 : List UInt8 := [42, 27, 28, 29, 182, 1, 190, 153, 0, 17, 21, 4, 155, 0, 12, 21, 4, 42, 180, 1, 95, 161, 0, 6]
abbrev dktX2_does_0 : List UInt8 := dkwX2_does_0 ++ dktX2_does_1
theorem dksX2_does_0 : cX2_does.data.toList.drop 0 = dktX2_does_0 := by decide +kernel
theorem dksX2_does_1 : cX2_does.data.toList.drop 24 = dktX2_does_1 := dk_seg dksX2_does_0 24 rfl rfl
theorem dksX2_does_2 : cX2_does.data.toList.drop 47 = dktX2_does_2 := dk_seg dksX2_does_1 23 rfl rfl
theorem dksX2_does_3 : cX2_does.data.toList.drop 70 = dktX2_does_3 := dk_seg dksX2_does_2 23 rfl rfl
theorem dksX2_does_4 : cX2_does.data.toList.drop 94 = dktX2_does_4 := dk_seg dksX2_does_3 24 rfl rfl
theorem dksX2_does_5 : cX2_does.data.toList.drop 116 = dktX2_does_5 := dk_seg dksX2_does_4 22 rfl rfl
theorem dksX2_does_6 : cX2_does.data.toList.drop 140 = dktX2_does_6 := dk_seg dksX2_does_5 24 rfl rfl
theorem dksX2_does_7 : cX2_does.data.toList.drop 162 = dktX2_does_7 := dk_seg dksX2_does_6 22 rfl rfl
theorem dksX2_does_8 : cX2_does.data.toList.drop 185 = dktX2_does_8 := dk_seg dksX2_does_7 23 rfl rfl
theorem dksX2_does_9 : cX2_does.data.toList.drop 209 = dktX2_does_9 := dk_seg dksX2_does_8 24 rfl rfl
theorem dksX2_does_10 : cX2_does.data.toList.drop 232 = dktX2_does_10 := dk_seg dksX2_does_9 23 rfl rfl
theorem dksX2_does_11 : cX2_does.data.toList.drop 254 = dktX2_does_11 := dk_seg dksX2_does_10 22 rfl rfl
theorem dX2_does_0 : decode cX2_does 0 = .ok (.aload_n 0, 1) := dk_42 (dk_at dksX2_does_0 0 rfl rfl)
theorem dX2_does_1 : decode cX2_does 1 = .ok (.iload_n 1, 1) := dk_27 (dk_at dksX2_does_0 1 rfl rfl)
theorem dX2_does_2 : decode cX2_does 2 = .ok (.iload_n 2, 1) := dk_28 (dk_at dksX2_does_0 2 rfl rfl)
theorem dX2_does_3 : decode cX2_does 3 = .ok (.iload_n 3, 1) := dk_29 (dk_at dksX2_does_0 3 rfl rfl)
theorem dX2_does_4 : decode cX2_does 4 = .ok (.invokevirtual 446, 3) := dk_182 1 190 (dk_at dksX2_does_0 4 rfl rfl)
theorem dX2_does_7 : decode cX2_does 7 = .ok (.ifCond .eq 17, 3) := dk_153 0 17 (dk_at dksX2_does_0 7 rfl rfl)
theorem dX2_does_10 : decode cX2_does 10 = .ok (.iload 4, 2) := dk_21 4 (dk_at dksX2_does_0 10 rfl rfl)
theorem dX2_does_12 : decode cX2_does 12 = .ok (.ifCond .lt 12, 3) := dk_155 0 12 (dk_at dksX2_does_0 12 rfl rfl)
theorem dX2_does_15 : decode cX2_does 15 = .ok (.iload 4, 2) := dk_21 4 (dk_at dksX2_does_0 15 rfl rfl)
theorem dX2_does_17 : decode cX2_does 17 = .ok (.aload_n 0, 1) := dk_42 (dk_at dksX2_does_0 17 rfl rfl)
theorem dX2_does_18 : decode cX2_does 18 = .ok (.getfield 351, 3) := dk_180 1 95 (dk_at dksX2_does_0 18 rfl rfl)
theorem dX2_does_21 : decode cX2_does 21 = .ok (.if_icmp .lt 6, 3) := dk_161 0 6 (dk_at dksX2_does_0 21 rfl rfl)
theorem dX2_does_24 : decode cX2_does 24 = .ok (.bipush (-2), 2) := dk_16 254 (dk_at dksX2_does_1 0 rfl rfl)
theorem dX2_does_26 : decode cX2_does 26 = .ok (.ireturn, 1) := dk_172 (dk_at dksX2_does_1 2 rfl rfl)
theorem dX2_does_27 : decode cX2_does 27 = .ok (.aload_n 0, 1) := dk_42 (dk_at dksX2_does_1 3 rfl rfl)
theorem dX2_does_28 : decode cX2_does 28 = .ok (.iload 4, 2) := dk_21 4 (dk_at dksX2_does_1 4 rfl rfl)
theorem dX2_does_30 : decode cX2_does 30 = .ok (.invokevirtual 369, 3) := dk_182 1 113 (dk_at dksX2_does_1 6 rfl rfl)
theorem dX2_does_33 : decode cX2_does 33 = .ok (.ifCond .eq 17, 3) := dk_153 0 17 (dk_at dksX2_does_1 9 rfl rfl)
theorem dX2_does_36 : decode cX2_does 36 = .ok (.aload_n 0, 1) := dk_42 (dk_at dksX2_does_1 12 rfl rfl)
theorem dX2_does_37 : decode cX2_does 37 = .ok (.getfield 121, 3) := dk_180 0 121 (dk_at dksX2_does_1 13 rfl rfl)
theorem dX2_does_40 : decode cX2_does 40 = .ok (.iload 4, 2) := dk_21 4 (dk_at dksX2_does_1 16 rfl rfl)
theorem dX2_does_42 : decode cX2_does 42 = .ok (.iaload, 1) := dk_46 (dk_at dksX2_does_1 18 rfl rfl)
theorem dX2_does_43 : decode cX2_does 43 = .ok (.ifCond .lt 7, 3) := dk_155 0 7 (dk_at dksX2_does_1 19 rfl rfl)
theorem dX2_does_46 : decode cX2_does 46 = .ok (.iconst 1, 1) := dk_4 (dk_at dksX2_does_1 22 rfl rfl)
theorem dX2_does_47 : decode cX2_does 47 = .ok (.goto 4, 3) := dk_167 0 4 (dk_at dksX2_does_2 0 rfl rfl)
theorem dX2_does_50 : decode cX2_does 50 = .ok (.iconst 0, 1) := dk_3 (dk_at dksX2_does_2 3 rfl rfl)
theorem dX2_does_51 : decode cX2_does 51 = .ok (.istore 5, 2) := dk_54 5 (dk_at dksX2_does_2 4 rfl rfl)
theorem dX2_does_53 : decode cX2_does 53 = .ok (.aload_n 0, 1) := dk_42 (dk_at dksX2_does_2 6 rfl rfl)
theorem dX2_does_54 : decode cX2_does 54 = .ok (.getfield 81, 3) := dk_180 0 81 (dk_at dksX2_does_2 7 rfl rfl)
theorem dX2_does_57 : decode cX2_does 57 = .ok (.iload 4, 2) := dk_21 4 (dk_at dksX2_does_2 10 rfl rfl)
theorem dX2_does_59 : decode cX2_does 59 = .ok (.iaload, 1) := dk_46 (dk_at dksX2_does_2 12 rfl rfl)
theorem dX2_does_60 : decode cX2_does 60 = .ok (.istore 6, 2) := dk_54 6 (dk_at dksX2_does_2 13 rfl rfl)
theorem dX2_does_62 : decode cX2_does 62 = .ok (.iload 6, 2) := dk_21 6 (dk_at dksX2_does_2 15 rfl rfl)
theorem dX2_does_64 : decode cX2_does 64 = .ok (.ifCond .lt 118, 3) := dk_155 0 118 (dk_at dksX2_does_2 17 rfl rfl)
theorem dX2_does_67 : decode cX2_does 67 = .ok (.aload_n 0, 1) := dk_42 (dk_at dksX2_does_2 20 rfl rfl)
theorem dX2_does_68 : decode cX2_does 68 = .ok (.iload 6, 2) := dk_21 6 (dk_at dksX2_does_2 21 rfl rfl)
theorem dX2_does_70 : decode cX2_does 70 = .ok (.invokevirtual 369, 3) := dk_182 1 113 (dk_at dksX2_does_3 0 rfl rfl)
theorem dX2_does_73 : decode cX2_does 73 = .ok (.ifCond .eq 109, 3) := dk_153 0 109 (dk_at dksX2_does_3 3 rfl rfl)
theorem dX2_does_76 : decode cX2_does 76 = .ok (.aload_n 0, 1) := dk_42 (dk_at dksX2_does_3 6 rfl rfl)
theorem dX2_does_77 : decode cX2_does 77 = .ok (.getfield 127, 3) := dk_180 0 127 (dk_at dksX2_does_3 7 rfl rfl)
theorem dX2_does_80 : decode cX2_does 80 = .ok (.iload 6, 2) := dk_21 6 (dk_at dksX2_does_3 10 rfl rfl)
theorem dX2_does_82 : decode cX2_does 82 = .ok (.iaload, 1) := dk_46 (dk_at dksX2_does_3 12 rfl rfl)
theorem dX2_does_83 : decode cX2_does 83 = .ok (.ifCond .le 99, 3) := dk_158 0 99 (dk_at dksX2_does_3 13 rfl rfl)
theorem dX2_does_86 : decode cX2_does 86 = .ok (.aload_n 0, 1) := dk_42 (dk_at dksX2_does_3 16 rfl rfl)
theorem dX2_does_87 : decode cX2_does 87 = .ok (.getfield 127, 3) := dk_180 0 127 (dk_at dksX2_does_3 17 rfl rfl)
theorem dX2_does_90 : decode cX2_does 90 = .ok (.iload 6, 2) := dk_21 6 (dk_at dksX2_does_3 20 rfl rfl)
theorem dX2_does_92 : decode cX2_does 92 = .ok (.iaload, 1) := dk_46 (dk_at dksX2_does_3 22 rfl rfl)
theorem dX2_does_93 : decode cX2_does 93 = .ok (.iconst 3, 1) := dk_6 (dk_at dksX2_does_3 23 rfl rfl)
theorem dX2_does_94 : decode cX2_does 94 = .ok (.if_icmp .ge 88, 3) := dk_162 0 88 (dk_at dksX2_does_4 0 rfl rfl)
theorem dX2_does_97 : decode cX2_does 97 = .ok (.iconst (-1), 1) := dk_2 (dk_at dksX2_does_4 3 rfl rfl)
theorem dX2_does_98 : decode cX2_does 98 = .ok (.istore 7, 2) := dk_54 7 (dk_at dksX2_does_4 4 rfl rfl)
theorem dX2_does_100 : decode cX2_does 100 = .ok (.aload_n 0, 1) := dk_42 (dk_at dksX2_does_4 6 rfl rfl)
theorem dX2_does_101 : decode cX2_does 101 = .ok (.getfield 351, 3) := dk_180 1 95 (dk_at dksX2_does_4 7 rfl rfl)
theorem dX2_does_104 : decode cX2_does 104 = .ok (.iconst 1, 1) := dk_4 (dk_at dksX2_does_4 10 rfl rfl)
theorem dX2_does_105 : decode cX2_does 105 = .ok (.isub, 1) := dk_100 (dk_at dksX2_does_4 11 rfl rfl)
theorem dX2_does_106 : decode cX2_does 106 = .ok (.istore 8, 2) := dk_54 8 (dk_at dksX2_does_4 12 rfl rfl)
theorem dX2_does_108 : decode cX2_does 108 = .ok (.iload 8, 2) := dk_21 8 (dk_at dksX2_does_4 14 rfl rfl)
theorem dX2_does_110 : decode cX2_does 110 = .ok (.iload 6, 2) := dk_21 6 (dk_at dksX2_does_4 16 rfl rfl)
theorem dX2_does_112 : decode cX2_does 112 = .ok (.if_icmp .le 53, 3) := dk_164 0 53 (dk_at dksX2_does_4 18 rfl rfl)
theorem dX2_does_115 : decode cX2_does 115 = .ok (.aload_n 0, 1) := dk_42 (dk_at dksX2_does_4 21 rfl rfl)
theorem dX2_does_116 : decode cX2_does 116 = .ok (.getfield 127, 3) := dk_180 0 127 (dk_at dksX2_does_5 0 rfl rfl)
theorem dX2_does_119 : decode cX2_does 119 = .ok (.iload 6, 2) := dk_21 6 (dk_at dksX2_does_5 3 rfl rfl)
theorem dX2_does_121 : decode cX2_does 121 = .ok (.iaload, 1) := dk_46 (dk_at dksX2_does_5 5 rfl rfl)
theorem dX2_does_122 : decode cX2_does 122 = .ok (.iconst 1, 1) := dk_4 (dk_at dksX2_does_5 6 rfl rfl)
theorem dX2_does_123 : decode cX2_does 123 = .ok (.if_icmp .ne 14, 3) := dk_160 0 14 (dk_at dksX2_does_5 7 rfl rfl)
theorem dX2_does_126 : decode cX2_does 126 = .ok (.aload_n 0, 1) := dk_42 (dk_at dksX2_does_5 10 rfl rfl)
theorem dX2_does_127 : decode cX2_does 127 = .ok (.iload 8, 2) := dk_21 8 (dk_at dksX2_does_5 11 rfl rfl)
theorem dX2_does_129 : decode cX2_does 129 = .ok (.iload 6, 2) := dk_21 6 (dk_at dksX2_does_5 13 rfl rfl)
theorem dX2_does_131 : decode cX2_does 131 = .ok (.invokevirtual 372, 3) := dk_182 1 116 (dk_at dksX2_does_5 15 rfl rfl)
theorem dX2_does_134 : decode cX2_does 134 = .ok (.goto 11, 3) := dk_167 0 11 (dk_at dksX2_does_5 18 rfl rfl)
theorem dX2_does_137 : decode cX2_does 137 = .ok (.aload_n 0, 1) := dk_42 (dk_at dksX2_does_5 21 rfl rfl)
theorem dX2_does_138 : decode cX2_does 138 = .ok (.iload 8, 2) := dk_21 8 (dk_at dksX2_does_5 22 rfl rfl)
theorem dX2_does_140 : decode cX2_does 140 = .ok (.iload 6, 2) := dk_21 6 (dk_at dksX2_does_6 0 rfl rfl)
theorem dX2_does_142 : decode cX2_does 142 = .ok (.invokevirtual 378, 3) := dk_182 1 122 (dk_at dksX2_does_6 2 rfl rfl)
theorem dX2_does_145 : decode cX2_does 145 = .ok (.aload_n 0, 1) := dk_42 (dk_at dksX2_does_6 5 rfl rfl)
theorem dX2_does_146 : decode cX2_does 146 = .ok (.getfield 124, 3) := dk_180 0 124 (dk_at dksX2_does_6 6 rfl rfl)
theorem dX2_does_149 : decode cX2_does 149 = .ok (.iload 6, 2) := dk_21 6 (dk_at dksX2_does_6 9 rfl rfl)
theorem dX2_does_151 : decode cX2_does 151 = .ok (.iaload, 1) := dk_46 (dk_at dksX2_does_6 11 rfl rfl)
theorem dX2_does_152 : decode cX2_does 152 = .ok (.if_icmp .ne 7, 3) := dk_160 0 7 (dk_at dksX2_does_6 12 rfl rfl)
theorem dX2_does_155 : decode cX2_does 155 = .ok (.iload 8, 2) := dk_21 8 (dk_at dksX2_does_6 15 rfl rfl)
theorem dX2_does_157 : decode cX2_does 157 = .ok (.istore 7, 2) := dk_54 7 (dk_at dksX2_does_6 17 rfl rfl)
theorem dX2_does_159 : decode cX2_does 159 = .ok (.iinc 8 (-1), 3) := dk_132 8 255 (dk_at dksX2_does_6 19 rfl rfl)
theorem dX2_does_162 : decode cX2_does 162 = .ok (.goto (-54), 3) := dk_167 255 202 (dk_at dksX2_does_7 0 rfl rfl)
theorem dX2_does_165 : decode cX2_does 165 = .ok (.iload 5, 2) := dk_21 5 (dk_at dksX2_does_7 3 rfl rfl)
theorem dX2_does_167 : decode cX2_does 167 = .ok (.iload 7, 2) := dk_21 7 (dk_at dksX2_does_7 5 rfl rfl)
theorem dX2_does_169 : decode cX2_does 169 = .ok (.iload 4, 2) := dk_21 4 (dk_at dksX2_does_7 7 rfl rfl)
theorem dX2_does_171 : decode cX2_does 171 = .ok (.if_icmp .ne 7, 3) := dk_160 0 7 (dk_at dksX2_does_7 9 rfl rfl)
theorem dX2_does_174 : decode cX2_does 174 = .ok (.iconst 2, 1) := dk_5 (dk_at dksX2_does_7 12 rfl rfl)
theorem dX2_does_175 : decode cX2_does 175 = .ok (.goto 4, 3) := dk_167 0 4 (dk_at dksX2_does_7 13 rfl rfl)
theorem dX2_does_178 : decode cX2_does 178 = .ok (.iconst 0, 1) := dk_3 (dk_at dksX2_does_7 16 rfl rfl)
theorem dX2_does_179 : decode cX2_does 179 = .ok (.ior, 1) := dk_128 (dk_at dksX2_does_7 17 rfl rfl)
theorem dX2_does_180 : decode cX2_does 180 = .ok (.istore 5, 2) := dk_54 5 (dk_at dksX2_does_7 18 rfl rfl)
theorem dX2_does_182 : decode cX2_does 182 = .ok (.iload 5, 2) := dk_21 5 (dk_at dksX2_does_7 20 rfl rfl)
theorem dX2_does_184 : decode cX2_does 184 = .ok (.aload_n 0, 1) := dk_42 (dk_at dksX2_does_7 22 rfl rfl)
theorem dX2_does_185 : decode cX2_does 185 = .ok (.getfield 381, 3) := dk_180 1 125 (dk_at dksX2_does_8 0 rfl rfl)
theorem dX2_does_188 : decode cX2_does 188 = .ok (.ifCond .eq 16, 3) := dk_153 0 16 (dk_at dksX2_does_8 3 rfl rfl)
theorem dX2_does_191 : decode cX2_does 191 = .ok (.aload_n 0, 1) := dk_42 (dk_at dksX2_does_8 6 rfl rfl)
theorem dX2_does_192 : decode cX2_does 192 = .ok (.getfield 387, 3) := dk_180 1 131 (dk_at dksX2_does_8 7 rfl rfl)
theorem dX2_does_195 : decode cX2_does 195 = .ok (.iload 4, 2) := dk_21 4 (dk_at dksX2_does_8 10 rfl rfl)
theorem dX2_does_197 : decode cX2_does 197 = .ok (.if_icmp .ne 7, 3) := dk_160 0 7 (dk_at dksX2_does_8 12 rfl rfl)
theorem dX2_does_200 : decode cX2_does 200 = .ok (.iconst 4, 1) := dk_7 (dk_at dksX2_does_8 15 rfl rfl)
theorem dX2_does_201 : decode cX2_does 201 = .ok (.goto 4, 3) := dk_167 0 4 (dk_at dksX2_does_8 16 rfl rfl)
theorem dX2_does_204 : decode cX2_does 204 = .ok (.iconst 0, 1) := dk_3 (dk_at dksX2_does_8 19 rfl rfl)
theorem dX2_does_205 : decode cX2_does 205 = .ok (.ior, 1) := dk_128 (dk_at dksX2_does_8 20 rfl rfl)
theorem dX2_does_206 : decode cX2_does 206 = .ok (.istore 5, 2) := dk_54 5 (dk_at dksX2_does_8 21 rfl rfl)
theorem dX2_does_208 : decode cX2_does 208 = .ok (.aload_n 0, 1) := dk_42 (dk_at dksX2_does_8 23 rfl rfl)
theorem dX2_does_209 : decode cX2_does 209 = .ok (.getfield 69, 3) := dk_180 0 69 (dk_at dksX2_does_9 0 rfl rfl)
theorem dX2_does_212 : decode cX2_does 212 = .ok (.iload 4, 2) := dk_21 4 (dk_at dksX2_does_9 3 rfl rfl)
theorem dX2_does_214 : decode cX2_does 214 = .ok (.iaload, 1) := dk_46 (dk_at dksX2_does_9 5 rfl rfl)
theorem dX2_does_215 : decode cX2_does 215 = .ok (.iconst 5, 1) := dk_8 (dk_at dksX2_does_9 6 rfl rfl)
theorem dX2_does_216 : decode cX2_does 216 = .ok (.if_icmp .ne 53, 3) := dk_160 0 53 (dk_at dksX2_does_9 7 rfl rfl)
theorem dX2_does_219 : decode cX2_does 219 = .ok (.aload_n 0, 1) := dk_42 (dk_at dksX2_does_9 10 rfl rfl)
theorem dX2_does_220 : decode cX2_does 220 = .ok (.iload 6, 2) := dk_21 6 (dk_at dksX2_does_9 11 rfl rfl)
theorem dX2_does_222 : decode cX2_does 222 = .ok (.invokevirtual 393, 3) := dk_182 1 137 (dk_at dksX2_does_9 13 rfl rfl)
theorem dX2_does_225 : decode cX2_does 225 = .ok (.ifCond .eq 44, 3) := dk_153 0 44 (dk_at dksX2_does_9 16 rfl rfl)
theorem dX2_does_228 : decode cX2_does 228 = .ok (.aload_n 0, 1) := dk_42 (dk_at dksX2_does_9 19 rfl rfl)
theorem dX2_does_229 : decode cX2_does 229 = .ok (.iload 4, 2) := dk_21 4 (dk_at dksX2_does_9 20 rfl rfl)
theorem dX2_does_231 : decode cX2_does 231 = .ok (.aload_n 0, 1) := dk_42 (dk_at dksX2_does_9 22 rfl rfl)
theorem dX2_does_232 : decode cX2_does 232 = .ok (.getfield 66, 3) := dk_180 0 66 (dk_at dksX2_does_10 0 rfl rfl)
theorem dX2_does_235 : decode cX2_does 235 = .ok (.iconst 4, 1) := dk_7 (dk_at dksX2_does_10 3 rfl rfl)
theorem dX2_does_236 : decode cX2_does 236 = .ok (.iaload, 1) := dk_46 (dk_at dksX2_does_10 4 rfl rfl)
theorem dX2_does_237 : decode cX2_does 237 = .ok (.invokevirtual 363, 3) := dk_182 1 107 (dk_at dksX2_does_10 5 rfl rfl)
theorem dX2_does_240 : decode cX2_does 240 = .ok (.istore 7, 2) := dk_54 7 (dk_at dksX2_does_10 8 rfl rfl)
theorem dX2_does_242 : decode cX2_does 242 = .ok (.iload 5, 2) := dk_21 5 (dk_at dksX2_does_10 10 rfl rfl)
theorem dX2_does_244 : decode cX2_does 244 = .ok (.iload 7, 2) := dk_21 7 (dk_at dksX2_does_10 12 rfl rfl)
theorem dX2_does_246 : decode cX2_does 246 = .ok (.ifCond .lt 19, 3) := dk_155 0 19 (dk_at dksX2_does_10 14 rfl rfl)
theorem dX2_does_249 : decode cX2_does 249 = .ok (.iload 7, 2) := dk_21 7 (dk_at dksX2_does_10 17 rfl rfl)
theorem dX2_does_251 : decode cX2_does 251 = .ok (.aload_n 0, 1) := dk_42 (dk_at dksX2_does_10 19 rfl rfl)
theorem dX2_does_252 : decode cX2_does 252 = .ok (.iload 6, 2) := dk_21 6 (dk_at dksX2_does_10 20 rfl rfl)
theorem dX2_does_254 : decode cX2_does 254 = .ok (.invokevirtual 396, 3) := dk_182 1 140 (dk_at dksX2_does_11 0 rfl rfl)
theorem dX2_does_257 : decode cX2_does 257 = .ok (.if_icmp .ge 8, 3) := dk_162 0 8 (dk_at dksX2_does_11 3 rfl rfl)
theorem dX2_does_260 : decode cX2_does 260 = .ok (.bipush 8, 2) := dk_16 8 (dk_at dksX2_does_11 6 rfl rfl)
theorem dX2_does_262 : decode cX2_does 262 = .ok (.goto 4, 3) := dk_167 0 4 (dk_at dksX2_does_11 8 rfl rfl)
theorem dX2_does_265 : decode cX2_does 265 = .ok (.iconst 0, 1) := dk_3 (dk_at dksX2_does_11 11 rfl rfl)
theorem dX2_does_266 : decode cX2_does 266 = .ok (.ior, 1) := dk_128 (dk_at dksX2_does_11 12 rfl rfl)
theorem dX2_does_267 : decode cX2_does 267 = .ok (.istore 5, 2) := dk_54 5 (dk_at dksX2_does_11 13 rfl rfl)
theorem dX2_does_269 : decode cX2_does 269 = .ok (.iload 5, 2) := dk_21 5 (dk_at dksX2_does_11 15 rfl rfl)
theorem dX2_does_271 : decode cX2_does 271 = .ok (.ireturn, 1) := dk_172 (dk_at dksX2_does_11 17 rfl rfl)
abbrev cX2_can : ByteArray := prog_23_method_83_code
def yX2_can : MethodName := ⟨RX2, "can", "(IIIII)I"⟩
def dkwX2_can_1 : List UInt8 := [28, 29, 182, 1, 190, 154, 0, 6, 16, 254, 172, 42, 21, 4, 21, 5, 182, 1, 217, 172]
abbrev dktX2_can_1 : List UInt8 := dkwX2_can_1 ++ []
def dkwX2_can_0 : List UInt8 := [21, 4, 3, 5, 184, 0, 176, 153, 0, 25, 21, 5, 3, 17, 39, 14, 184, 0, 176, 153, 0, 13, 42, 27]
abbrev dktX2_can_0 : List UInt8 := dkwX2_can_0 ++ dktX2_can_1
theorem dksX2_can_0 : cX2_can.data.toList.drop 0 = dktX2_can_0 := by decide +kernel
theorem dksX2_can_1 : cX2_can.data.toList.drop 24 = dktX2_can_1 := dk_seg dksX2_can_0 24 rfl rfl
theorem dX2_can_0 : decode cX2_can 0 = .ok (.iload 4, 2) := dk_21 4 (dk_at dksX2_can_0 0 rfl rfl)
theorem dX2_can_2 : decode cX2_can 2 = .ok (.iconst 0, 1) := dk_3 (dk_at dksX2_can_0 2 rfl rfl)
theorem dX2_can_3 : decode cX2_can 3 = .ok (.iconst 2, 1) := dk_5 (dk_at dksX2_can_0 3 rfl rfl)
theorem dX2_can_4 : decode cX2_can 4 = .ok (.invokestatic 176, 3) := dk_184 0 176 (dk_at dksX2_can_0 4 rfl rfl)
theorem dX2_can_7 : decode cX2_can 7 = .ok (.ifCond .eq 25, 3) := dk_153 0 25 (dk_at dksX2_can_0 7 rfl rfl)
theorem dX2_can_10 : decode cX2_can 10 = .ok (.iload 5, 2) := dk_21 5 (dk_at dksX2_can_0 10 rfl rfl)
theorem dX2_can_12 : decode cX2_can 12 = .ok (.iconst 0, 1) := dk_3 (dk_at dksX2_can_0 12 rfl rfl)
theorem dX2_can_13 : decode cX2_can 13 = .ok (.sipush 9998, 3) := dk_17 39 14 (dk_at dksX2_can_0 13 rfl rfl)
theorem dX2_can_16 : decode cX2_can 16 = .ok (.invokestatic 176, 3) := dk_184 0 176 (dk_at dksX2_can_0 16 rfl rfl)
theorem dX2_can_19 : decode cX2_can 19 = .ok (.ifCond .eq 13, 3) := dk_153 0 13 (dk_at dksX2_can_0 19 rfl rfl)
theorem dX2_can_22 : decode cX2_can 22 = .ok (.aload_n 0, 1) := dk_42 (dk_at dksX2_can_0 22 rfl rfl)
theorem dX2_can_23 : decode cX2_can 23 = .ok (.iload_n 1, 1) := dk_27 (dk_at dksX2_can_0 23 rfl rfl)
theorem dX2_can_24 : decode cX2_can 24 = .ok (.iload_n 2, 1) := dk_28 (dk_at dksX2_can_1 0 rfl rfl)
theorem dX2_can_25 : decode cX2_can 25 = .ok (.iload_n 3, 1) := dk_29 (dk_at dksX2_can_1 1 rfl rfl)
theorem dX2_can_26 : decode cX2_can 26 = .ok (.invokevirtual 446, 3) := dk_182 1 190 (dk_at dksX2_can_1 2 rfl rfl)
theorem dX2_can_29 : decode cX2_can 29 = .ok (.ifCond .ne 6, 3) := dk_154 0 6 (dk_at dksX2_can_1 5 rfl rfl)
theorem dX2_can_32 : decode cX2_can 32 = .ok (.bipush (-2), 2) := dk_16 254 (dk_at dksX2_can_1 8 rfl rfl)
theorem dX2_can_34 : decode cX2_can 34 = .ok (.ireturn, 1) := dk_172 (dk_at dksX2_can_1 10 rfl rfl)
theorem dX2_can_35 : decode cX2_can 35 = .ok (.aload_n 0, 1) := dk_42 (dk_at dksX2_can_1 11 rfl rfl)
theorem dX2_can_36 : decode cX2_can 36 = .ok (.iload 4, 2) := dk_21 4 (dk_at dksX2_can_1 12 rfl rfl)
theorem dX2_can_38 : decode cX2_can 38 = .ok (.iload 5, 2) := dk_21 5 (dk_at dksX2_can_1 14 rfl rfl)
theorem dX2_can_40 : decode cX2_can 40 = .ok (.invokevirtual 473, 3) := dk_182 1 217 (dk_at dksX2_can_1 16 rfl rfl)
theorem dX2_can_43 : decode cX2_can 43 = .ok (.ireturn, 1) := dk_172 (dk_at dksX2_can_1 19 rfl rfl)
abbrev cX2_canAt : ByteArray := prog_23_method_82_code
def yX2_canAt : MethodName := ⟨RX2, "canAt", "(II)I"⟩
def dkwX2_canAt_6 : List UInt8 := [29, 172]
abbrev dktX2_canAt_6 : List UInt8 := dkwX2_canAt_6 ++ []
def dkwX2_canAt_5 : List UInt8 := [155, 0, 18, 42, 180, 0, 112, 21, 4, 46, 28, 163, 0, 7, 29, 5, 128, 62, 132, 4, 1, 167, 255, 140]
abbrev dktX2_canAt_5 : List UInt8 := dkwX2_canAt_5 ++ dktX2_canAt_6
def dkwX2_canAt_4 : List UInt8 := [29, 4, 128, 62, 42, 180, 0, 87, 21, 4, 46, 27, 160, 0, 28, 42, 180, 0, 112, 21, 4, 46]
abbrev dktX2_canAt_4 : List UInt8 := dkwX2_canAt_4 ++ dktX2_canAt_5
def dkwX2_canAt_3 : List UInt8 := [155, 0, 24, 42, 180, 0, 66, 16, 6, 46, 153, 0, 14, 28, 42, 180, 0, 78, 21, 4, 46, 164, 0, 7]
abbrev dktX2_canAt_3 : List UInt8 := dkwX2_canAt_3 ++ dktX2_canAt_4
def dkwX2_canAt_2 : List UInt8 := [154, 0, 6, 167, 0, 85, 42, 180, 0, 84, 21, 4, 46, 27, 160, 0, 38, 42, 180, 0, 78, 21, 4, 46]
abbrev dktX2_canAt_2 : List UInt8 := dkwX2_canAt_2 ++ dktX2_canAt_3
def dkwX2_canAt_1 : List UInt8 := [42, 180, 1, 95, 162, 0, 113, 42, 21, 4, 182, 1, 113, 153, 0, 98, 42, 21, 4, 28, 182, 1, 147]
abbrev dktX2_canAt_1 : List UInt8 := dkwX2_canAt_1 ++ dktX2_canAt_2
def dkwX2_canAt_0 : List UInt8 := [42, 180, 1, 125, 153, 0, 13, 28, 42, 180, 1, 128, 161, 0, 5, 3, 172, 3, 62, 3, 54, 4, 21, 4]
abbrev dktX2_canAt_0 : List UInt8 := dkwX2_canAt_0 ++ dktX2_canAt_1
theorem dksX2_canAt_0 : cX2_canAt.data.toList.drop 0 = dktX2_canAt_0 := by decide +kernel
theorem dksX2_canAt_1 : cX2_canAt.data.toList.drop 24 = dktX2_canAt_1 := dk_seg dksX2_canAt_0 24 rfl rfl
theorem dksX2_canAt_2 : cX2_canAt.data.toList.drop 47 = dktX2_canAt_2 := dk_seg dksX2_canAt_1 23 rfl rfl
theorem dksX2_canAt_3 : cX2_canAt.data.toList.drop 71 = dktX2_canAt_3 := dk_seg dksX2_canAt_2 24 rfl rfl
theorem dksX2_canAt_4 : cX2_canAt.data.toList.drop 95 = dktX2_canAt_4 := dk_seg dksX2_canAt_3 24 rfl rfl
theorem dksX2_canAt_5 : cX2_canAt.data.toList.drop 117 = dktX2_canAt_5 := dk_seg dksX2_canAt_4 22 rfl rfl
theorem dksX2_canAt_6 : cX2_canAt.data.toList.drop 141 = dktX2_canAt_6 := dk_seg dksX2_canAt_5 24 rfl rfl
theorem dX2_canAt_0 : decode cX2_canAt 0 = .ok (.aload_n 0, 1) := dk_42 (dk_at dksX2_canAt_0 0 rfl rfl)
theorem dX2_canAt_1 : decode cX2_canAt 1 = .ok (.getfield 381, 3) := dk_180 1 125 (dk_at dksX2_canAt_0 1 rfl rfl)
theorem dX2_canAt_4 : decode cX2_canAt 4 = .ok (.ifCond .eq 13, 3) := dk_153 0 13 (dk_at dksX2_canAt_0 4 rfl rfl)
theorem dX2_canAt_7 : decode cX2_canAt 7 = .ok (.iload_n 2, 1) := dk_28 (dk_at dksX2_canAt_0 7 rfl rfl)
theorem dX2_canAt_8 : decode cX2_canAt 8 = .ok (.aload_n 0, 1) := dk_42 (dk_at dksX2_canAt_0 8 rfl rfl)
theorem dX2_canAt_9 : decode cX2_canAt 9 = .ok (.getfield 384, 3) := dk_180 1 128 (dk_at dksX2_canAt_0 9 rfl rfl)
theorem dX2_canAt_12 : decode cX2_canAt 12 = .ok (.if_icmp .lt 5, 3) := dk_161 0 5 (dk_at dksX2_canAt_0 12 rfl rfl)
theorem dX2_canAt_15 : decode cX2_canAt 15 = .ok (.iconst 0, 1) := dk_3 (dk_at dksX2_canAt_0 15 rfl rfl)
theorem dX2_canAt_16 : decode cX2_canAt 16 = .ok (.ireturn, 1) := dk_172 (dk_at dksX2_canAt_0 16 rfl rfl)
theorem dX2_canAt_17 : decode cX2_canAt 17 = .ok (.iconst 0, 1) := dk_3 (dk_at dksX2_canAt_0 17 rfl rfl)
theorem dX2_canAt_18 : decode cX2_canAt 18 = .ok (.istore_n 3, 1) := dk_62 (dk_at dksX2_canAt_0 18 rfl rfl)
theorem dX2_canAt_19 : decode cX2_canAt 19 = .ok (.iconst 0, 1) := dk_3 (dk_at dksX2_canAt_0 19 rfl rfl)
theorem dX2_canAt_20 : decode cX2_canAt 20 = .ok (.istore 4, 2) := dk_54 4 (dk_at dksX2_canAt_0 20 rfl rfl)
theorem dX2_canAt_22 : decode cX2_canAt 22 = .ok (.iload 4, 2) := dk_21 4 (dk_at dksX2_canAt_0 22 rfl rfl)
theorem dX2_canAt_24 : decode cX2_canAt 24 = .ok (.aload_n 0, 1) := dk_42 (dk_at dksX2_canAt_1 0 rfl rfl)
theorem dX2_canAt_25 : decode cX2_canAt 25 = .ok (.getfield 351, 3) := dk_180 1 95 (dk_at dksX2_canAt_1 1 rfl rfl)
theorem dX2_canAt_28 : decode cX2_canAt 28 = .ok (.if_icmp .ge 113, 3) := dk_162 0 113 (dk_at dksX2_canAt_1 4 rfl rfl)
theorem dX2_canAt_31 : decode cX2_canAt 31 = .ok (.aload_n 0, 1) := dk_42 (dk_at dksX2_canAt_1 7 rfl rfl)
theorem dX2_canAt_32 : decode cX2_canAt 32 = .ok (.iload 4, 2) := dk_21 4 (dk_at dksX2_canAt_1 8 rfl rfl)
theorem dX2_canAt_34 : decode cX2_canAt 34 = .ok (.invokevirtual 369, 3) := dk_182 1 113 (dk_at dksX2_canAt_1 10 rfl rfl)
theorem dX2_canAt_37 : decode cX2_canAt 37 = .ok (.ifCond .eq 98, 3) := dk_153 0 98 (dk_at dksX2_canAt_1 13 rfl rfl)
theorem dX2_canAt_40 : decode cX2_canAt 40 = .ok (.aload_n 0, 1) := dk_42 (dk_at dksX2_canAt_1 16 rfl rfl)
theorem dX2_canAt_41 : decode cX2_canAt 41 = .ok (.iload 4, 2) := dk_21 4 (dk_at dksX2_canAt_1 17 rfl rfl)
theorem dX2_canAt_43 : decode cX2_canAt 43 = .ok (.iload_n 2, 1) := dk_28 (dk_at dksX2_canAt_1 19 rfl rfl)
theorem dX2_canAt_44 : decode cX2_canAt 44 = .ok (.invokevirtual 403, 3) := dk_182 1 147 (dk_at dksX2_canAt_1 20 rfl rfl)
theorem dX2_canAt_47 : decode cX2_canAt 47 = .ok (.ifCond .ne 6, 3) := dk_154 0 6 (dk_at dksX2_canAt_2 0 rfl rfl)
theorem dX2_canAt_50 : decode cX2_canAt 50 = .ok (.goto 85, 3) := dk_167 0 85 (dk_at dksX2_canAt_2 3 rfl rfl)
theorem dX2_canAt_53 : decode cX2_canAt 53 = .ok (.aload_n 0, 1) := dk_42 (dk_at dksX2_canAt_2 6 rfl rfl)
theorem dX2_canAt_54 : decode cX2_canAt 54 = .ok (.getfield 84, 3) := dk_180 0 84 (dk_at dksX2_canAt_2 7 rfl rfl)
theorem dX2_canAt_57 : decode cX2_canAt 57 = .ok (.iload 4, 2) := dk_21 4 (dk_at dksX2_canAt_2 10 rfl rfl)
theorem dX2_canAt_59 : decode cX2_canAt 59 = .ok (.iaload, 1) := dk_46 (dk_at dksX2_canAt_2 12 rfl rfl)
theorem dX2_canAt_60 : decode cX2_canAt 60 = .ok (.iload_n 1, 1) := dk_27 (dk_at dksX2_canAt_2 13 rfl rfl)
theorem dX2_canAt_61 : decode cX2_canAt 61 = .ok (.if_icmp .ne 38, 3) := dk_160 0 38 (dk_at dksX2_canAt_2 14 rfl rfl)
theorem dX2_canAt_64 : decode cX2_canAt 64 = .ok (.aload_n 0, 1) := dk_42 (dk_at dksX2_canAt_2 17 rfl rfl)
theorem dX2_canAt_65 : decode cX2_canAt 65 = .ok (.getfield 78, 3) := dk_180 0 78 (dk_at dksX2_canAt_2 18 rfl rfl)
theorem dX2_canAt_68 : decode cX2_canAt 68 = .ok (.iload 4, 2) := dk_21 4 (dk_at dksX2_canAt_2 21 rfl rfl)
theorem dX2_canAt_70 : decode cX2_canAt 70 = .ok (.iaload, 1) := dk_46 (dk_at dksX2_canAt_2 23 rfl rfl)
theorem dX2_canAt_71 : decode cX2_canAt 71 = .ok (.ifCond .lt 24, 3) := dk_155 0 24 (dk_at dksX2_canAt_3 0 rfl rfl)
theorem dX2_canAt_74 : decode cX2_canAt 74 = .ok (.aload_n 0, 1) := dk_42 (dk_at dksX2_canAt_3 3 rfl rfl)
theorem dX2_canAt_75 : decode cX2_canAt 75 = .ok (.getfield 66, 3) := dk_180 0 66 (dk_at dksX2_canAt_3 4 rfl rfl)
theorem dX2_canAt_78 : decode cX2_canAt 78 = .ok (.bipush 6, 2) := dk_16 6 (dk_at dksX2_canAt_3 7 rfl rfl)
theorem dX2_canAt_80 : decode cX2_canAt 80 = .ok (.iaload, 1) := dk_46 (dk_at dksX2_canAt_3 9 rfl rfl)
theorem dX2_canAt_81 : decode cX2_canAt 81 = .ok (.ifCond .eq 14, 3) := dk_153 0 14 (dk_at dksX2_canAt_3 10 rfl rfl)
theorem dX2_canAt_84 : decode cX2_canAt 84 = .ok (.iload_n 2, 1) := dk_28 (dk_at dksX2_canAt_3 13 rfl rfl)
theorem dX2_canAt_85 : decode cX2_canAt 85 = .ok (.aload_n 0, 1) := dk_42 (dk_at dksX2_canAt_3 14 rfl rfl)
theorem dX2_canAt_86 : decode cX2_canAt 86 = .ok (.getfield 78, 3) := dk_180 0 78 (dk_at dksX2_canAt_3 15 rfl rfl)
theorem dX2_canAt_89 : decode cX2_canAt 89 = .ok (.iload 4, 2) := dk_21 4 (dk_at dksX2_canAt_3 18 rfl rfl)
theorem dX2_canAt_91 : decode cX2_canAt 91 = .ok (.iaload, 1) := dk_46 (dk_at dksX2_canAt_3 20 rfl rfl)
theorem dX2_canAt_92 : decode cX2_canAt 92 = .ok (.if_icmp .le 7, 3) := dk_164 0 7 (dk_at dksX2_canAt_3 21 rfl rfl)
theorem dX2_canAt_95 : decode cX2_canAt 95 = .ok (.iload_n 3, 1) := dk_29 (dk_at dksX2_canAt_4 0 rfl rfl)
theorem dX2_canAt_96 : decode cX2_canAt 96 = .ok (.iconst 1, 1) := dk_4 (dk_at dksX2_canAt_4 1 rfl rfl)
theorem dX2_canAt_97 : decode cX2_canAt 97 = .ok (.ior, 1) := dk_128 (dk_at dksX2_canAt_4 2 rfl rfl)
theorem dX2_canAt_98 : decode cX2_canAt 98 = .ok (.istore_n 3, 1) := dk_62 (dk_at dksX2_canAt_4 3 rfl rfl)
theorem dX2_canAt_99 : decode cX2_canAt 99 = .ok (.aload_n 0, 1) := dk_42 (dk_at dksX2_canAt_4 4 rfl rfl)
theorem dX2_canAt_100 : decode cX2_canAt 100 = .ok (.getfield 87, 3) := dk_180 0 87 (dk_at dksX2_canAt_4 5 rfl rfl)
theorem dX2_canAt_103 : decode cX2_canAt 103 = .ok (.iload 4, 2) := dk_21 4 (dk_at dksX2_canAt_4 8 rfl rfl)
theorem dX2_canAt_105 : decode cX2_canAt 105 = .ok (.iaload, 1) := dk_46 (dk_at dksX2_canAt_4 10 rfl rfl)
theorem dX2_canAt_106 : decode cX2_canAt 106 = .ok (.iload_n 1, 1) := dk_27 (dk_at dksX2_canAt_4 11 rfl rfl)
theorem dX2_canAt_107 : decode cX2_canAt 107 = .ok (.if_icmp .ne 28, 3) := dk_160 0 28 (dk_at dksX2_canAt_4 12 rfl rfl)
theorem dX2_canAt_110 : decode cX2_canAt 110 = .ok (.aload_n 0, 1) := dk_42 (dk_at dksX2_canAt_4 15 rfl rfl)
theorem dX2_canAt_111 : decode cX2_canAt 111 = .ok (.getfield 112, 3) := dk_180 0 112 (dk_at dksX2_canAt_4 16 rfl rfl)
theorem dX2_canAt_114 : decode cX2_canAt 114 = .ok (.iload 4, 2) := dk_21 4 (dk_at dksX2_canAt_4 19 rfl rfl)
theorem dX2_canAt_116 : decode cX2_canAt 116 = .ok (.iaload, 1) := dk_46 (dk_at dksX2_canAt_4 21 rfl rfl)
theorem dX2_canAt_117 : decode cX2_canAt 117 = .ok (.ifCond .lt 18, 3) := dk_155 0 18 (dk_at dksX2_canAt_5 0 rfl rfl)
theorem dX2_canAt_120 : decode cX2_canAt 120 = .ok (.aload_n 0, 1) := dk_42 (dk_at dksX2_canAt_5 3 rfl rfl)
theorem dX2_canAt_121 : decode cX2_canAt 121 = .ok (.getfield 112, 3) := dk_180 0 112 (dk_at dksX2_canAt_5 4 rfl rfl)
theorem dX2_canAt_124 : decode cX2_canAt 124 = .ok (.iload 4, 2) := dk_21 4 (dk_at dksX2_canAt_5 7 rfl rfl)
theorem dX2_canAt_126 : decode cX2_canAt 126 = .ok (.iaload, 1) := dk_46 (dk_at dksX2_canAt_5 9 rfl rfl)
theorem dX2_canAt_127 : decode cX2_canAt 127 = .ok (.iload_n 2, 1) := dk_28 (dk_at dksX2_canAt_5 10 rfl rfl)
theorem dX2_canAt_128 : decode cX2_canAt 128 = .ok (.if_icmp .gt 7, 3) := dk_163 0 7 (dk_at dksX2_canAt_5 11 rfl rfl)
theorem dX2_canAt_131 : decode cX2_canAt 131 = .ok (.iload_n 3, 1) := dk_29 (dk_at dksX2_canAt_5 14 rfl rfl)
theorem dX2_canAt_132 : decode cX2_canAt 132 = .ok (.iconst 2, 1) := dk_5 (dk_at dksX2_canAt_5 15 rfl rfl)
theorem dX2_canAt_133 : decode cX2_canAt 133 = .ok (.ior, 1) := dk_128 (dk_at dksX2_canAt_5 16 rfl rfl)
theorem dX2_canAt_134 : decode cX2_canAt 134 = .ok (.istore_n 3, 1) := dk_62 (dk_at dksX2_canAt_5 17 rfl rfl)
theorem dX2_canAt_135 : decode cX2_canAt 135 = .ok (.iinc 4 1, 3) := dk_132 4 1 (dk_at dksX2_canAt_5 18 rfl rfl)
theorem dX2_canAt_138 : decode cX2_canAt 138 = .ok (.goto (-116), 3) := dk_167 255 140 (dk_at dksX2_canAt_5 21 rfl rfl)
theorem dX2_canAt_141 : decode cX2_canAt 141 = .ok (.iload_n 3, 1) := dk_29 (dk_at dksX2_canAt_6 0 rfl rfl)
theorem dX2_canAt_142 : decode cX2_canAt 142 = .ok (.ireturn, 1) := dk_172 (dk_at dksX2_canAt_6 1 rfl rfl)
abbrev cX2_until : ByteArray := prog_23_method_84_code
def yX2_until : MethodName := ⟨RX2, "until", "(IIIII)I"⟩
def dkwX2_until_2 : List UInt8 := [182, 1, 217, 21, 5, 126, 154, 0, 9, 132, 6, 255, 167, 255, 234, 21, 6, 172]
abbrev dktX2_until_2 : List UInt8 := dkwX2_until_2 ++ []
def dkwX2_until_1 : List UInt8 := [182, 1, 190, 154, 0, 6, 16, 254, 172, 17, 39, 14, 54, 6, 21, 6, 155, 0, 23, 42, 21, 4, 21, 6]
abbrev dktX2_until_1 : List UInt8 := dkwX2_until_1 ++ dktX2_until_2
def dkwX2_until_0 : List UInt8 := [21, 4, 3, 5, 184, 0, 176, 153, 0, 23, 21, 5, 4, 5, 184, 0, 176, 153, 0, 13, 42, 27, 28, 29]
abbrev dktX2_until_0 : List UInt8 := dkwX2_until_0 ++ dktX2_until_1
theorem dksX2_until_0 : cX2_until.data.toList.drop 0 = dktX2_until_0 := by decide +kernel
theorem dksX2_until_1 : cX2_until.data.toList.drop 24 = dktX2_until_1 := dk_seg dksX2_until_0 24 rfl rfl
theorem dksX2_until_2 : cX2_until.data.toList.drop 48 = dktX2_until_2 := dk_seg dksX2_until_1 24 rfl rfl
theorem dX2_until_0 : decode cX2_until 0 = .ok (.iload 4, 2) := dk_21 4 (dk_at dksX2_until_0 0 rfl rfl)
theorem dX2_until_2 : decode cX2_until 2 = .ok (.iconst 0, 1) := dk_3 (dk_at dksX2_until_0 2 rfl rfl)
theorem dX2_until_3 : decode cX2_until 3 = .ok (.iconst 2, 1) := dk_5 (dk_at dksX2_until_0 3 rfl rfl)
theorem dX2_until_4 : decode cX2_until 4 = .ok (.invokestatic 176, 3) := dk_184 0 176 (dk_at dksX2_until_0 4 rfl rfl)
theorem dX2_until_7 : decode cX2_until 7 = .ok (.ifCond .eq 23, 3) := dk_153 0 23 (dk_at dksX2_until_0 7 rfl rfl)
theorem dX2_until_10 : decode cX2_until 10 = .ok (.iload 5, 2) := dk_21 5 (dk_at dksX2_until_0 10 rfl rfl)
theorem dX2_until_12 : decode cX2_until 12 = .ok (.iconst 1, 1) := dk_4 (dk_at dksX2_until_0 12 rfl rfl)
theorem dX2_until_13 : decode cX2_until 13 = .ok (.iconst 2, 1) := dk_5 (dk_at dksX2_until_0 13 rfl rfl)
theorem dX2_until_14 : decode cX2_until 14 = .ok (.invokestatic 176, 3) := dk_184 0 176 (dk_at dksX2_until_0 14 rfl rfl)
theorem dX2_until_17 : decode cX2_until 17 = .ok (.ifCond .eq 13, 3) := dk_153 0 13 (dk_at dksX2_until_0 17 rfl rfl)
theorem dX2_until_20 : decode cX2_until 20 = .ok (.aload_n 0, 1) := dk_42 (dk_at dksX2_until_0 20 rfl rfl)
theorem dX2_until_21 : decode cX2_until 21 = .ok (.iload_n 1, 1) := dk_27 (dk_at dksX2_until_0 21 rfl rfl)
theorem dX2_until_22 : decode cX2_until 22 = .ok (.iload_n 2, 1) := dk_28 (dk_at dksX2_until_0 22 rfl rfl)
theorem dX2_until_23 : decode cX2_until 23 = .ok (.iload_n 3, 1) := dk_29 (dk_at dksX2_until_0 23 rfl rfl)
theorem dX2_until_24 : decode cX2_until 24 = .ok (.invokevirtual 446, 3) := dk_182 1 190 (dk_at dksX2_until_1 0 rfl rfl)
theorem dX2_until_27 : decode cX2_until 27 = .ok (.ifCond .ne 6, 3) := dk_154 0 6 (dk_at dksX2_until_1 3 rfl rfl)
theorem dX2_until_30 : decode cX2_until 30 = .ok (.bipush (-2), 2) := dk_16 254 (dk_at dksX2_until_1 6 rfl rfl)
theorem dX2_until_32 : decode cX2_until 32 = .ok (.ireturn, 1) := dk_172 (dk_at dksX2_until_1 8 rfl rfl)
theorem dX2_until_33 : decode cX2_until 33 = .ok (.sipush 9998, 3) := dk_17 39 14 (dk_at dksX2_until_1 9 rfl rfl)
theorem dX2_until_36 : decode cX2_until 36 = .ok (.istore 6, 2) := dk_54 6 (dk_at dksX2_until_1 12 rfl rfl)
theorem dX2_until_38 : decode cX2_until 38 = .ok (.iload 6, 2) := dk_21 6 (dk_at dksX2_until_1 14 rfl rfl)
theorem dX2_until_40 : decode cX2_until 40 = .ok (.ifCond .lt 23, 3) := dk_155 0 23 (dk_at dksX2_until_1 16 rfl rfl)
theorem dX2_until_43 : decode cX2_until 43 = .ok (.aload_n 0, 1) := dk_42 (dk_at dksX2_until_1 19 rfl rfl)
theorem dX2_until_44 : decode cX2_until 44 = .ok (.iload 4, 2) := dk_21 4 (dk_at dksX2_until_1 20 rfl rfl)
theorem dX2_until_46 : decode cX2_until 46 = .ok (.iload 6, 2) := dk_21 6 (dk_at dksX2_until_1 22 rfl rfl)
theorem dX2_until_48 : decode cX2_until 48 = .ok (.invokevirtual 473, 3) := dk_182 1 217 (dk_at dksX2_until_2 0 rfl rfl)
theorem dX2_until_51 : decode cX2_until 51 = .ok (.iload 5, 2) := dk_21 5 (dk_at dksX2_until_2 3 rfl rfl)
theorem dX2_until_53 : decode cX2_until 53 = .ok (.iand, 1) := dk_126 (dk_at dksX2_until_2 5 rfl rfl)
theorem dX2_until_54 : decode cX2_until 54 = .ok (.ifCond .ne 9, 3) := dk_154 0 9 (dk_at dksX2_until_2 6 rfl rfl)
theorem dX2_until_57 : decode cX2_until 57 = .ok (.iinc 6 (-1), 3) := dk_132 6 255 (dk_at dksX2_until_2 9 rfl rfl)
theorem dX2_until_60 : decode cX2_until 60 = .ok (.goto (-22), 3) := dk_167 255 234 (dk_at dksX2_until_2 12 rfl rfl)
theorem dX2_until_63 : decode cX2_until 63 = .ok (.iload 6, 2) := dk_21 6 (dk_at dksX2_until_2 15 rfl rfl)
theorem dX2_until_65 : decode cX2_until 65 = .ok (.ireturn, 1) := dk_172 (dk_at dksX2_until_2 17 rfl rfl)
abbrev cX2_lost : ByteArray := prog_23_method_87_code
def yX2_lost : MethodName := ⟨RX2, "lost", "(III)I"⟩
def dkwX2_lost_2 : List UInt8 := [42, 182, 1, 223, 172]
abbrev dktX2_lost_2 : List UInt8 := dkwX2_lost_2 ++ []
def dkwX2_lost_1 : List UInt8 := [164, 0, 6, 16, 254, 172, 42, 28, 3, 182, 1, 92, 42, 27, 182, 1, 184, 42, 180, 0, 75, 29, 5, 79]
abbrev dktX2_lost_1 : List UInt8 := dkwX2_lost_1 ++ dktX2_lost_2
def dkwX2_lost_0 : List UInt8 := [42, 27, 28, 29, 182, 1, 220, 153, 0, 18, 42, 180, 0, 34, 16, 12, 27, 104, 29, 96, 46, 4]
abbrev dktX2_lost_0 : List UInt8 := dkwX2_lost_0 ++ dktX2_lost_1
theorem dksX2_lost_0 : cX2_lost.data.toList.drop 0 = dktX2_lost_0 := by decide +kernel
theorem dksX2_lost_1 : cX2_lost.data.toList.drop 22 = dktX2_lost_1 := dk_seg dksX2_lost_0 22 rfl rfl
theorem dksX2_lost_2 : cX2_lost.data.toList.drop 46 = dktX2_lost_2 := dk_seg dksX2_lost_1 24 rfl rfl
theorem dX2_lost_0 : decode cX2_lost 0 = .ok (.aload_n 0, 1) := dk_42 (dk_at dksX2_lost_0 0 rfl rfl)
theorem dX2_lost_1 : decode cX2_lost 1 = .ok (.iload_n 1, 1) := dk_27 (dk_at dksX2_lost_0 1 rfl rfl)
theorem dX2_lost_2 : decode cX2_lost 2 = .ok (.iload_n 2, 1) := dk_28 (dk_at dksX2_lost_0 2 rfl rfl)
theorem dX2_lost_3 : decode cX2_lost 3 = .ok (.iload_n 3, 1) := dk_29 (dk_at dksX2_lost_0 3 rfl rfl)
theorem dX2_lost_4 : decode cX2_lost 4 = .ok (.invokevirtual 476, 3) := dk_182 1 220 (dk_at dksX2_lost_0 4 rfl rfl)
theorem dX2_lost_7 : decode cX2_lost 7 = .ok (.ifCond .eq 18, 3) := dk_153 0 18 (dk_at dksX2_lost_0 7 rfl rfl)
theorem dX2_lost_10 : decode cX2_lost 10 = .ok (.aload_n 0, 1) := dk_42 (dk_at dksX2_lost_0 10 rfl rfl)
theorem dX2_lost_11 : decode cX2_lost 11 = .ok (.getfield 34, 3) := dk_180 0 34 (dk_at dksX2_lost_0 11 rfl rfl)
theorem dX2_lost_14 : decode cX2_lost 14 = .ok (.bipush 12, 2) := dk_16 12 (dk_at dksX2_lost_0 14 rfl rfl)
theorem dX2_lost_16 : decode cX2_lost 16 = .ok (.iload_n 1, 1) := dk_27 (dk_at dksX2_lost_0 16 rfl rfl)
theorem dX2_lost_17 : decode cX2_lost 17 = .ok (.imul, 1) := dk_104 (dk_at dksX2_lost_0 17 rfl rfl)
theorem dX2_lost_18 : decode cX2_lost 18 = .ok (.iload_n 3, 1) := dk_29 (dk_at dksX2_lost_0 18 rfl rfl)
theorem dX2_lost_19 : decode cX2_lost 19 = .ok (.iadd, 1) := dk_96 (dk_at dksX2_lost_0 19 rfl rfl)
theorem dX2_lost_20 : decode cX2_lost 20 = .ok (.iaload, 1) := dk_46 (dk_at dksX2_lost_0 20 rfl rfl)
theorem dX2_lost_21 : decode cX2_lost 21 = .ok (.iconst 1, 1) := dk_4 (dk_at dksX2_lost_0 21 rfl rfl)
theorem dX2_lost_22 : decode cX2_lost 22 = .ok (.if_icmp .le 6, 3) := dk_164 0 6 (dk_at dksX2_lost_1 0 rfl rfl)
theorem dX2_lost_25 : decode cX2_lost 25 = .ok (.bipush (-2), 2) := dk_16 254 (dk_at dksX2_lost_1 3 rfl rfl)
theorem dX2_lost_27 : decode cX2_lost 27 = .ok (.ireturn, 1) := dk_172 (dk_at dksX2_lost_1 5 rfl rfl)
theorem dX2_lost_28 : decode cX2_lost 28 = .ok (.aload_n 0, 1) := dk_42 (dk_at dksX2_lost_1 6 rfl rfl)
theorem dX2_lost_29 : decode cX2_lost 29 = .ok (.iload_n 2, 1) := dk_28 (dk_at dksX2_lost_1 7 rfl rfl)
theorem dX2_lost_30 : decode cX2_lost 30 = .ok (.iconst 0, 1) := dk_3 (dk_at dksX2_lost_1 8 rfl rfl)
theorem dX2_lost_31 : decode cX2_lost 31 = .ok (.invokevirtual 348, 3) := dk_182 1 92 (dk_at dksX2_lost_1 9 rfl rfl)
theorem dX2_lost_34 : decode cX2_lost 34 = .ok (.aload_n 0, 1) := dk_42 (dk_at dksX2_lost_1 12 rfl rfl)
theorem dX2_lost_35 : decode cX2_lost 35 = .ok (.iload_n 1, 1) := dk_27 (dk_at dksX2_lost_1 13 rfl rfl)
theorem dX2_lost_36 : decode cX2_lost 36 = .ok (.invokevirtual 440, 3) := dk_182 1 184 (dk_at dksX2_lost_1 14 rfl rfl)
theorem dX2_lost_39 : decode cX2_lost 39 = .ok (.aload_n 0, 1) := dk_42 (dk_at dksX2_lost_1 17 rfl rfl)
theorem dX2_lost_40 : decode cX2_lost 40 = .ok (.getfield 75, 3) := dk_180 0 75 (dk_at dksX2_lost_1 18 rfl rfl)
theorem dX2_lost_43 : decode cX2_lost 43 = .ok (.iload_n 3, 1) := dk_29 (dk_at dksX2_lost_1 21 rfl rfl)
theorem dX2_lost_44 : decode cX2_lost 44 = .ok (.iconst 2, 1) := dk_5 (dk_at dksX2_lost_1 22 rfl rfl)
theorem dX2_lost_45 : decode cX2_lost 45 = .ok (.iastore, 1) := dk_79 (dk_at dksX2_lost_1 23 rfl rfl)
theorem dX2_lost_46 : decode cX2_lost 46 = .ok (.aload_n 0, 1) := dk_42 (dk_at dksX2_lost_2 0 rfl rfl)
theorem dX2_lost_47 : decode cX2_lost 47 = .ok (.invokevirtual 479, 3) := dk_182 1 223 (dk_at dksX2_lost_2 1 rfl rfl)
theorem dX2_lost_50 : decode cX2_lost 50 = .ok (.ireturn, 1) := dk_172 (dk_at dksX2_lost_2 4 rfl rfl)
abbrev cX2_isSaid : ByteArray := prog_23_method_86_code
def yX2_isSaid : MethodName := ⟨RX2, "isSaid", "(III)Z"⟩
def dkwX2_isSaid_1 : List UInt8 := [180, 0, 19, 27, 46, 162, 0, 7, 4, 167, 0, 4, 3, 172]
abbrev dktX2_isSaid_1 : List UInt8 := dkwX2_isSaid_1 ++ []
def dkwX2_isSaid_0 : List UInt8 := [42, 27, 182, 1, 43, 153, 0, 29, 42, 28, 182, 1, 89, 153, 0, 21, 29, 155, 0, 17, 29, 42]
abbrev dktX2_isSaid_0 : List UInt8 := dkwX2_isSaid_0 ++ dktX2_isSaid_1
theorem dksX2_isSaid_0 : cX2_isSaid.data.toList.drop 0 = dktX2_isSaid_0 := by decide +kernel
theorem dksX2_isSaid_1 : cX2_isSaid.data.toList.drop 22 = dktX2_isSaid_1 := dk_seg dksX2_isSaid_0 22 rfl rfl
theorem dX2_isSaid_0 : decode cX2_isSaid 0 = .ok (.aload_n 0, 1) := dk_42 (dk_at dksX2_isSaid_0 0 rfl rfl)
theorem dX2_isSaid_1 : decode cX2_isSaid 1 = .ok (.iload_n 1, 1) := dk_27 (dk_at dksX2_isSaid_0 1 rfl rfl)
theorem dX2_isSaid_2 : decode cX2_isSaid 2 = .ok (.invokevirtual 299, 3) := dk_182 1 43 (dk_at dksX2_isSaid_0 2 rfl rfl)
theorem dX2_isSaid_5 : decode cX2_isSaid 5 = .ok (.ifCond .eq 29, 3) := dk_153 0 29 (dk_at dksX2_isSaid_0 5 rfl rfl)
theorem dX2_isSaid_8 : decode cX2_isSaid 8 = .ok (.aload_n 0, 1) := dk_42 (dk_at dksX2_isSaid_0 8 rfl rfl)
theorem dX2_isSaid_9 : decode cX2_isSaid 9 = .ok (.iload_n 2, 1) := dk_28 (dk_at dksX2_isSaid_0 9 rfl rfl)
theorem dX2_isSaid_10 : decode cX2_isSaid 10 = .ok (.invokevirtual 345, 3) := dk_182 1 89 (dk_at dksX2_isSaid_0 10 rfl rfl)
theorem dX2_isSaid_13 : decode cX2_isSaid 13 = .ok (.ifCond .eq 21, 3) := dk_153 0 21 (dk_at dksX2_isSaid_0 13 rfl rfl)
theorem dX2_isSaid_16 : decode cX2_isSaid 16 = .ok (.iload_n 3, 1) := dk_29 (dk_at dksX2_isSaid_0 16 rfl rfl)
theorem dX2_isSaid_17 : decode cX2_isSaid 17 = .ok (.ifCond .lt 17, 3) := dk_155 0 17 (dk_at dksX2_isSaid_0 17 rfl rfl)
theorem dX2_isSaid_20 : decode cX2_isSaid 20 = .ok (.iload_n 3, 1) := dk_29 (dk_at dksX2_isSaid_0 20 rfl rfl)
theorem dX2_isSaid_21 : decode cX2_isSaid 21 = .ok (.aload_n 0, 1) := dk_42 (dk_at dksX2_isSaid_0 21 rfl rfl)
theorem dX2_isSaid_22 : decode cX2_isSaid 22 = .ok (.getfield 19, 3) := dk_180 0 19 (dk_at dksX2_isSaid_1 0 rfl rfl)
theorem dX2_isSaid_25 : decode cX2_isSaid 25 = .ok (.iload_n 1, 1) := dk_27 (dk_at dksX2_isSaid_1 3 rfl rfl)
theorem dX2_isSaid_26 : decode cX2_isSaid 26 = .ok (.iaload, 1) := dk_46 (dk_at dksX2_isSaid_1 4 rfl rfl)
theorem dX2_isSaid_27 : decode cX2_isSaid 27 = .ok (.if_icmp .ge 7, 3) := dk_162 0 7 (dk_at dksX2_isSaid_1 5 rfl rfl)
theorem dX2_isSaid_30 : decode cX2_isSaid 30 = .ok (.iconst 1, 1) := dk_4 (dk_at dksX2_isSaid_1 8 rfl rfl)
theorem dX2_isSaid_31 : decode cX2_isSaid 31 = .ok (.goto 4, 3) := dk_167 0 4 (dk_at dksX2_isSaid_1 9 rfl rfl)
theorem dX2_isSaid_34 : decode cX2_isSaid 34 = .ok (.iconst 0, 1) := dk_3 (dk_at dksX2_isSaid_1 12 rfl rfl)
theorem dX2_isSaid_35 : decode cX2_isSaid 35 = .ok (.ireturn, 1) := dk_172 (dk_at dksX2_isSaid_1 13 rfl rfl)
abbrev cX2_withBargain : ByteArray := prog_23_method_85_code
def yX2_withBargain : MethodName := ⟨RX2, "withBargain", "()I"⟩
def dkwX2_withBargain_2 : List UInt8 := [132, 2, 1, 167, 255, 225, 27, 172]
abbrev dktX2_withBargain_2 : List UInt8 := dkwX2_withBargain_2 ++ []
def dkwX2_withBargain_1 : List UInt8 := [162, 0, 29, 42, 28, 182, 1, 175, 27, 42, 180, 1, 125, 153, 0, 7, 4, 167, 0, 4, 3, 96, 60]
abbrev dktX2_withBargain_1 : List UInt8 := dkwX2_withBargain_1 ++ dktX2_withBargain_2
def dkwX2_withBargain_0 : List UInt8 := [42, 182, 1, 168, 42, 182, 1, 171, 154, 0, 6, 16, 254, 172, 3, 60, 3, 61, 28, 42, 180, 1, 101]
abbrev dktX2_withBargain_0 : List UInt8 := dkwX2_withBargain_0 ++ dktX2_withBargain_1
theorem dksX2_withBargain_0 : cX2_withBargain.data.toList.drop 0 = dktX2_withBargain_0 := by decide +kernel
theorem dksX2_withBargain_1 : cX2_withBargain.data.toList.drop 23 = dktX2_withBargain_1 := dk_seg dksX2_withBargain_0 23 rfl rfl
theorem dksX2_withBargain_2 : cX2_withBargain.data.toList.drop 46 = dktX2_withBargain_2 := dk_seg dksX2_withBargain_1 23 rfl rfl
theorem dX2_withBargain_0 : decode cX2_withBargain 0 = .ok (.aload_n 0, 1) := dk_42 (dk_at dksX2_withBargain_0 0 rfl rfl)
theorem dX2_withBargain_1 : decode cX2_withBargain 1 = .ok (.invokevirtual 424, 3) := dk_182 1 168 (dk_at dksX2_withBargain_0 1 rfl rfl)
theorem dX2_withBargain_4 : decode cX2_withBargain 4 = .ok (.aload_n 0, 1) := dk_42 (dk_at dksX2_withBargain_0 4 rfl rfl)
theorem dX2_withBargain_5 : decode cX2_withBargain 5 = .ok (.invokevirtual 427, 3) := dk_182 1 171 (dk_at dksX2_withBargain_0 5 rfl rfl)
theorem dX2_withBargain_8 : decode cX2_withBargain 8 = .ok (.ifCond .ne 6, 3) := dk_154 0 6 (dk_at dksX2_withBargain_0 8 rfl rfl)
theorem dX2_withBargain_11 : decode cX2_withBargain 11 = .ok (.bipush (-2), 2) := dk_16 254 (dk_at dksX2_withBargain_0 11 rfl rfl)
theorem dX2_withBargain_13 : decode cX2_withBargain 13 = .ok (.ireturn, 1) := dk_172 (dk_at dksX2_withBargain_0 13 rfl rfl)
theorem dX2_withBargain_14 : decode cX2_withBargain 14 = .ok (.iconst 0, 1) := dk_3 (dk_at dksX2_withBargain_0 14 rfl rfl)
theorem dX2_withBargain_15 : decode cX2_withBargain 15 = .ok (.istore_n 1, 1) := dk_60 (dk_at dksX2_withBargain_0 15 rfl rfl)
theorem dX2_withBargain_16 : decode cX2_withBargain 16 = .ok (.iconst 0, 1) := dk_3 (dk_at dksX2_withBargain_0 16 rfl rfl)
theorem dX2_withBargain_17 : decode cX2_withBargain 17 = .ok (.istore_n 2, 1) := dk_61 (dk_at dksX2_withBargain_0 17 rfl rfl)
theorem dX2_withBargain_18 : decode cX2_withBargain 18 = .ok (.iload_n 2, 1) := dk_28 (dk_at dksX2_withBargain_0 18 rfl rfl)
theorem dX2_withBargain_19 : decode cX2_withBargain 19 = .ok (.aload_n 0, 1) := dk_42 (dk_at dksX2_withBargain_0 19 rfl rfl)
theorem dX2_withBargain_20 : decode cX2_withBargain 20 = .ok (.getfield 357, 3) := dk_180 1 101 (dk_at dksX2_withBargain_0 20 rfl rfl)
theorem dX2_withBargain_23 : decode cX2_withBargain 23 = .ok (.if_icmp .ge 29, 3) := dk_162 0 29 (dk_at dksX2_withBargain_1 0 rfl rfl)
theorem dX2_withBargain_26 : decode cX2_withBargain 26 = .ok (.aload_n 0, 1) := dk_42 (dk_at dksX2_withBargain_1 3 rfl rfl)
theorem dX2_withBargain_27 : decode cX2_withBargain 27 = .ok (.iload_n 2, 1) := dk_28 (dk_at dksX2_withBargain_1 4 rfl rfl)
theorem dX2_withBargain_28 : decode cX2_withBargain 28 = .ok (.invokevirtual 431, 3) := dk_182 1 175 (dk_at dksX2_withBargain_1 5 rfl rfl)
theorem dX2_withBargain_31 : decode cX2_withBargain 31 = .ok (.iload_n 1, 1) := dk_27 (dk_at dksX2_withBargain_1 8 rfl rfl)
theorem dX2_withBargain_32 : decode cX2_withBargain 32 = .ok (.aload_n 0, 1) := dk_42 (dk_at dksX2_withBargain_1 9 rfl rfl)
theorem dX2_withBargain_33 : decode cX2_withBargain 33 = .ok (.getfield 381, 3) := dk_180 1 125 (dk_at dksX2_withBargain_1 10 rfl rfl)
theorem dX2_withBargain_36 : decode cX2_withBargain 36 = .ok (.ifCond .eq 7, 3) := dk_153 0 7 (dk_at dksX2_withBargain_1 13 rfl rfl)
theorem dX2_withBargain_39 : decode cX2_withBargain 39 = .ok (.iconst 1, 1) := dk_4 (dk_at dksX2_withBargain_1 16 rfl rfl)
theorem dX2_withBargain_40 : decode cX2_withBargain 40 = .ok (.goto 4, 3) := dk_167 0 4 (dk_at dksX2_withBargain_1 17 rfl rfl)
theorem dX2_withBargain_43 : decode cX2_withBargain 43 = .ok (.iconst 0, 1) := dk_3 (dk_at dksX2_withBargain_1 20 rfl rfl)
theorem dX2_withBargain_44 : decode cX2_withBargain 44 = .ok (.iadd, 1) := dk_96 (dk_at dksX2_withBargain_1 21 rfl rfl)
theorem dX2_withBargain_45 : decode cX2_withBargain 45 = .ok (.istore_n 1, 1) := dk_60 (dk_at dksX2_withBargain_1 22 rfl rfl)
theorem dX2_withBargain_46 : decode cX2_withBargain 46 = .ok (.iinc 2 1, 3) := dk_132 2 1 (dk_at dksX2_withBargain_2 0 rfl rfl)
theorem dX2_withBargain_49 : decode cX2_withBargain 49 = .ok (.goto (-31), 3) := dk_167 255 225 (dk_at dksX2_withBargain_2 3 rfl rfl)
theorem dX2_withBargain_52 : decode cX2_withBargain 52 = .ok (.iload_n 1, 1) := dk_27 (dk_at dksX2_withBargain_2 6 rfl rfl)
theorem dX2_withBargain_53 : decode cX2_withBargain 53 = .ok (.ireturn, 1) := dk_172 (dk_at dksX2_withBargain_2 7 rfl rfl)
abbrev cX2_wired : ByteArray := prog_23_method_88_code
def yX2_wired : MethodName := ⟨RX2, "wired", "(III)I"⟩
def dkwX2_wired_3 : List UInt8 := [132, 4, 1, 167, 255, 223, 42, 182, 1, 223, 172]
abbrev dktX2_wired_3 : List UInt8 := dkwX2_wired_3 ++ []
def dkwX2_wired_2 : List UInt8 := [180, 0, 97, 6, 29, 104, 21, 4, 96, 3, 79, 42, 180, 0, 100, 6, 29, 104, 21, 4, 96, 3, 79]
abbrev dktX2_wired_2 : List UInt8 := dkwX2_wired_2 ++ dktX2_wired_3
def dkwX2_wired_1 : List UInt8 := [42, 180, 0, 75, 29, 3, 79, 42, 180, 0, 72, 29, 4, 79, 4, 54, 4, 21, 4, 6, 162, 0, 33, 42]
abbrev dktX2_wired_1 : List UInt8 := dkwX2_wired_1 ++ dktX2_wired_2
def dkwX2_wired_0 : List UInt8 := [42, 27, 28, 29, 182, 1, 220, 154, 0, 6, 16, 254, 172, 42, 28, 3, 182, 1, 92, 42, 27, 182, 1, 184]
abbrev dktX2_wired_0 : List UInt8 := dkwX2_wired_0 ++ dktX2_wired_1
theorem dksX2_wired_0 : cX2_wired.data.toList.drop 0 = dktX2_wired_0 := by decide +kernel
theorem dksX2_wired_1 : cX2_wired.data.toList.drop 24 = dktX2_wired_1 := dk_seg dksX2_wired_0 24 rfl rfl
theorem dksX2_wired_2 : cX2_wired.data.toList.drop 48 = dktX2_wired_2 := dk_seg dksX2_wired_1 24 rfl rfl
theorem dksX2_wired_3 : cX2_wired.data.toList.drop 71 = dktX2_wired_3 := dk_seg dksX2_wired_2 23 rfl rfl
theorem dX2_wired_0 : decode cX2_wired 0 = .ok (.aload_n 0, 1) := dk_42 (dk_at dksX2_wired_0 0 rfl rfl)
theorem dX2_wired_1 : decode cX2_wired 1 = .ok (.iload_n 1, 1) := dk_27 (dk_at dksX2_wired_0 1 rfl rfl)
theorem dX2_wired_2 : decode cX2_wired 2 = .ok (.iload_n 2, 1) := dk_28 (dk_at dksX2_wired_0 2 rfl rfl)
theorem dX2_wired_3 : decode cX2_wired 3 = .ok (.iload_n 3, 1) := dk_29 (dk_at dksX2_wired_0 3 rfl rfl)
theorem dX2_wired_4 : decode cX2_wired 4 = .ok (.invokevirtual 476, 3) := dk_182 1 220 (dk_at dksX2_wired_0 4 rfl rfl)
theorem dX2_wired_7 : decode cX2_wired 7 = .ok (.ifCond .ne 6, 3) := dk_154 0 6 (dk_at dksX2_wired_0 7 rfl rfl)
theorem dX2_wired_10 : decode cX2_wired 10 = .ok (.bipush (-2), 2) := dk_16 254 (dk_at dksX2_wired_0 10 rfl rfl)
theorem dX2_wired_12 : decode cX2_wired 12 = .ok (.ireturn, 1) := dk_172 (dk_at dksX2_wired_0 12 rfl rfl)
theorem dX2_wired_13 : decode cX2_wired 13 = .ok (.aload_n 0, 1) := dk_42 (dk_at dksX2_wired_0 13 rfl rfl)
theorem dX2_wired_14 : decode cX2_wired 14 = .ok (.iload_n 2, 1) := dk_28 (dk_at dksX2_wired_0 14 rfl rfl)
theorem dX2_wired_15 : decode cX2_wired 15 = .ok (.iconst 0, 1) := dk_3 (dk_at dksX2_wired_0 15 rfl rfl)
theorem dX2_wired_16 : decode cX2_wired 16 = .ok (.invokevirtual 348, 3) := dk_182 1 92 (dk_at dksX2_wired_0 16 rfl rfl)
theorem dX2_wired_19 : decode cX2_wired 19 = .ok (.aload_n 0, 1) := dk_42 (dk_at dksX2_wired_0 19 rfl rfl)
theorem dX2_wired_20 : decode cX2_wired 20 = .ok (.iload_n 1, 1) := dk_27 (dk_at dksX2_wired_0 20 rfl rfl)
theorem dX2_wired_21 : decode cX2_wired 21 = .ok (.invokevirtual 440, 3) := dk_182 1 184 (dk_at dksX2_wired_0 21 rfl rfl)
theorem dX2_wired_24 : decode cX2_wired 24 = .ok (.aload_n 0, 1) := dk_42 (dk_at dksX2_wired_1 0 rfl rfl)
theorem dX2_wired_25 : decode cX2_wired 25 = .ok (.getfield 75, 3) := dk_180 0 75 (dk_at dksX2_wired_1 1 rfl rfl)
theorem dX2_wired_28 : decode cX2_wired 28 = .ok (.iload_n 3, 1) := dk_29 (dk_at dksX2_wired_1 4 rfl rfl)
theorem dX2_wired_29 : decode cX2_wired 29 = .ok (.iconst 0, 1) := dk_3 (dk_at dksX2_wired_1 5 rfl rfl)
theorem dX2_wired_30 : decode cX2_wired 30 = .ok (.iastore, 1) := dk_79 (dk_at dksX2_wired_1 6 rfl rfl)
theorem dX2_wired_31 : decode cX2_wired 31 = .ok (.aload_n 0, 1) := dk_42 (dk_at dksX2_wired_1 7 rfl rfl)
theorem dX2_wired_32 : decode cX2_wired 32 = .ok (.getfield 72, 3) := dk_180 0 72 (dk_at dksX2_wired_1 8 rfl rfl)
theorem dX2_wired_35 : decode cX2_wired 35 = .ok (.iload_n 3, 1) := dk_29 (dk_at dksX2_wired_1 11 rfl rfl)
theorem dX2_wired_36 : decode cX2_wired 36 = .ok (.iconst 1, 1) := dk_4 (dk_at dksX2_wired_1 12 rfl rfl)
theorem dX2_wired_37 : decode cX2_wired 37 = .ok (.iastore, 1) := dk_79 (dk_at dksX2_wired_1 13 rfl rfl)
theorem dX2_wired_38 : decode cX2_wired 38 = .ok (.iconst 1, 1) := dk_4 (dk_at dksX2_wired_1 14 rfl rfl)
theorem dX2_wired_39 : decode cX2_wired 39 = .ok (.istore 4, 2) := dk_54 4 (dk_at dksX2_wired_1 15 rfl rfl)
theorem dX2_wired_41 : decode cX2_wired 41 = .ok (.iload 4, 2) := dk_21 4 (dk_at dksX2_wired_1 17 rfl rfl)
theorem dX2_wired_43 : decode cX2_wired 43 = .ok (.iconst 3, 1) := dk_6 (dk_at dksX2_wired_1 19 rfl rfl)
theorem dX2_wired_44 : decode cX2_wired 44 = .ok (.if_icmp .ge 33, 3) := dk_162 0 33 (dk_at dksX2_wired_1 20 rfl rfl)
theorem dX2_wired_47 : decode cX2_wired 47 = .ok (.aload_n 0, 1) := dk_42 (dk_at dksX2_wired_1 23 rfl rfl)
theorem dX2_wired_48 : decode cX2_wired 48 = .ok (.getfield 97, 3) := dk_180 0 97 (dk_at dksX2_wired_2 0 rfl rfl)
theorem dX2_wired_51 : decode cX2_wired 51 = .ok (.iconst 3, 1) := dk_6 (dk_at dksX2_wired_2 3 rfl rfl)
theorem dX2_wired_52 : decode cX2_wired 52 = .ok (.iload_n 3, 1) := dk_29 (dk_at dksX2_wired_2 4 rfl rfl)
theorem dX2_wired_53 : decode cX2_wired 53 = .ok (.imul, 1) := dk_104 (dk_at dksX2_wired_2 5 rfl rfl)
theorem dX2_wired_54 : decode cX2_wired 54 = .ok (.iload 4, 2) := dk_21 4 (dk_at dksX2_wired_2 6 rfl rfl)
theorem dX2_wired_56 : decode cX2_wired 56 = .ok (.iadd, 1) := dk_96 (dk_at dksX2_wired_2 8 rfl rfl)
theorem dX2_wired_57 : decode cX2_wired 57 = .ok (.iconst 0, 1) := dk_3 (dk_at dksX2_wired_2 9 rfl rfl)
theorem dX2_wired_58 : decode cX2_wired 58 = .ok (.iastore, 1) := dk_79 (dk_at dksX2_wired_2 10 rfl rfl)
theorem dX2_wired_59 : decode cX2_wired 59 = .ok (.aload_n 0, 1) := dk_42 (dk_at dksX2_wired_2 11 rfl rfl)
theorem dX2_wired_60 : decode cX2_wired 60 = .ok (.getfield 100, 3) := dk_180 0 100 (dk_at dksX2_wired_2 12 rfl rfl)
theorem dX2_wired_63 : decode cX2_wired 63 = .ok (.iconst 3, 1) := dk_6 (dk_at dksX2_wired_2 15 rfl rfl)
theorem dX2_wired_64 : decode cX2_wired 64 = .ok (.iload_n 3, 1) := dk_29 (dk_at dksX2_wired_2 16 rfl rfl)
theorem dX2_wired_65 : decode cX2_wired 65 = .ok (.imul, 1) := dk_104 (dk_at dksX2_wired_2 17 rfl rfl)
theorem dX2_wired_66 : decode cX2_wired 66 = .ok (.iload 4, 2) := dk_21 4 (dk_at dksX2_wired_2 18 rfl rfl)
theorem dX2_wired_68 : decode cX2_wired 68 = .ok (.iadd, 1) := dk_96 (dk_at dksX2_wired_2 20 rfl rfl)
theorem dX2_wired_69 : decode cX2_wired 69 = .ok (.iconst 0, 1) := dk_3 (dk_at dksX2_wired_2 21 rfl rfl)
theorem dX2_wired_70 : decode cX2_wired 70 = .ok (.iastore, 1) := dk_79 (dk_at dksX2_wired_2 22 rfl rfl)
theorem dX2_wired_71 : decode cX2_wired 71 = .ok (.iinc 4 1, 3) := dk_132 4 1 (dk_at dksX2_wired_3 0 rfl rfl)
theorem dX2_wired_74 : decode cX2_wired 74 = .ok (.goto (-33), 3) := dk_167 255 223 (dk_at dksX2_wired_3 3 rfl rfl)
theorem dX2_wired_77 : decode cX2_wired 77 = .ok (.aload_n 0, 1) := dk_42 (dk_at dksX2_wired_3 6 rfl rfl)
theorem dX2_wired_78 : decode cX2_wired 78 = .ok (.invokevirtual 479, 3) := dk_182 1 223 (dk_at dksX2_wired_3 7 rfl rfl)
theorem dX2_wired_81 : decode cX2_wired 81 = .ok (.ireturn, 1) := dk_172 (dk_at dksX2_wired_3 10 rfl rfl)
abbrev cX2_image : ByteArray := prog_23_method_90_code
def yX2_image : MethodName := ⟨RX2, "image", "()I"⟩
def dkwX2_image_1 : List UInt8 := [180, 1, 226, 4, 96, 181, 1, 226, 42, 180, 1, 226, 4, 100, 172]
abbrev dktX2_image_1 : List UInt8 := dkwX2_image_1 ++ []
def dkwX2_image_0 : List UInt8 := [42, 180, 1, 226, 7, 160, 0, 5, 2, 172, 42, 3, 42, 180, 1, 226, 4, 96, 182, 1, 229, 42, 89]
abbrev dktX2_image_0 : List UInt8 := dkwX2_image_0 ++ dktX2_image_1
theorem dksX2_image_0 : cX2_image.data.toList.drop 0 = dktX2_image_0 := by decide +kernel
theorem dksX2_image_1 : cX2_image.data.toList.drop 23 = dktX2_image_1 := dk_seg dksX2_image_0 23 rfl rfl
theorem dX2_image_0 : decode cX2_image 0 = .ok (.aload_n 0, 1) := dk_42 (dk_at dksX2_image_0 0 rfl rfl)
theorem dX2_image_1 : decode cX2_image 1 = .ok (.getfield 482, 3) := dk_180 1 226 (dk_at dksX2_image_0 1 rfl rfl)
theorem dX2_image_4 : decode cX2_image 4 = .ok (.iconst 4, 1) := dk_7 (dk_at dksX2_image_0 4 rfl rfl)
theorem dX2_image_5 : decode cX2_image 5 = .ok (.if_icmp .ne 5, 3) := dk_160 0 5 (dk_at dksX2_image_0 5 rfl rfl)
theorem dX2_image_8 : decode cX2_image 8 = .ok (.iconst (-1), 1) := dk_2 (dk_at dksX2_image_0 8 rfl rfl)
theorem dX2_image_9 : decode cX2_image 9 = .ok (.ireturn, 1) := dk_172 (dk_at dksX2_image_0 9 rfl rfl)
theorem dX2_image_10 : decode cX2_image 10 = .ok (.aload_n 0, 1) := dk_42 (dk_at dksX2_image_0 10 rfl rfl)
theorem dX2_image_11 : decode cX2_image 11 = .ok (.iconst 0, 1) := dk_3 (dk_at dksX2_image_0 11 rfl rfl)
theorem dX2_image_12 : decode cX2_image 12 = .ok (.aload_n 0, 1) := dk_42 (dk_at dksX2_image_0 12 rfl rfl)
theorem dX2_image_13 : decode cX2_image 13 = .ok (.getfield 482, 3) := dk_180 1 226 (dk_at dksX2_image_0 13 rfl rfl)
theorem dX2_image_16 : decode cX2_image 16 = .ok (.iconst 1, 1) := dk_4 (dk_at dksX2_image_0 16 rfl rfl)
theorem dX2_image_17 : decode cX2_image 17 = .ok (.iadd, 1) := dk_96 (dk_at dksX2_image_0 17 rfl rfl)
theorem dX2_image_18 : decode cX2_image 18 = .ok (.invokevirtual 485, 3) := dk_182 1 229 (dk_at dksX2_image_0 18 rfl rfl)
theorem dX2_image_21 : decode cX2_image 21 = .ok (.aload_n 0, 1) := dk_42 (dk_at dksX2_image_0 21 rfl rfl)
theorem dX2_image_22 : decode cX2_image 22 = .ok (.dup, 1) := dk_89 (dk_at dksX2_image_0 22 rfl rfl)
theorem dX2_image_23 : decode cX2_image 23 = .ok (.getfield 482, 3) := dk_180 1 226 (dk_at dksX2_image_1 0 rfl rfl)
theorem dX2_image_26 : decode cX2_image 26 = .ok (.iconst 1, 1) := dk_4 (dk_at dksX2_image_1 3 rfl rfl)
theorem dX2_image_27 : decode cX2_image 27 = .ok (.iadd, 1) := dk_96 (dk_at dksX2_image_1 4 rfl rfl)
theorem dX2_image_28 : decode cX2_image 28 = .ok (.putfield 482, 3) := dk_181 1 226 (dk_at dksX2_image_1 5 rfl rfl)
theorem dX2_image_31 : decode cX2_image 31 = .ok (.aload_n 0, 1) := dk_42 (dk_at dksX2_image_1 8 rfl rfl)
theorem dX2_image_32 : decode cX2_image 32 = .ok (.getfield 482, 3) := dk_180 1 226 (dk_at dksX2_image_1 9 rfl rfl)
theorem dX2_image_35 : decode cX2_image 35 = .ok (.iconst 1, 1) := dk_4 (dk_at dksX2_image_1 12 rfl rfl)
theorem dX2_image_36 : decode cX2_image 36 = .ok (.isub, 1) := dk_100 (dk_at dksX2_image_1 13 rfl rfl)
theorem dX2_image_37 : decode cX2_image 37 = .ok (.ireturn, 1) := dk_172 (dk_at dksX2_image_1 14 rfl rfl)
abbrev cX2_copies : ByteArray := prog_23_method_89_code
def yX2_copies : MethodName := ⟨RX2, "copies", "(II)V"⟩
def dkwX2_copies_17 : List UInt8 := [27, 104, 29, 96, 46, 79, 132, 3, 1, 167, 255, 222, 177]
abbrev dktX2_copies_17 : List UInt8 := dkwX2_copies_17 ++ []
def dkwX2_copies_16 : List UInt8 := [17, 0, 196, 162, 0, 33, 42, 180, 0, 55, 17, 0, 196, 28, 104, 29, 96, 42, 180, 0, 55, 17, 0, 196]
abbrev dktX2_copies_16 : List UInt8 := dkwX2_copies_16 ++ dktX2_copies_17
def dkwX2_copies_15 : List UInt8 := [29, 96, 42, 180, 0, 52, 17, 2, 64, 27, 104, 29, 96, 46, 79, 132, 3, 1, 167, 255, 198, 3, 62, 29]
abbrev dktX2_copies_15 : List UInt8 := dkwX2_copies_15 ++ dktX2_copies_16
def dkwX2_copies_14 : List UInt8 := [29, 96, 42, 180, 0, 49, 17, 2, 64, 27, 104, 29, 96, 46, 79, 42, 180, 0, 52, 17, 2, 64, 28, 104]
abbrev dktX2_copies_14 : List UInt8 := dkwX2_copies_14 ++ dktX2_copies_15
def dkwX2_copies_13 : List UInt8 := [132, 3, 1, 167, 255, 222, 3, 62, 29, 17, 2, 64, 162, 0, 57, 42, 180, 0, 49, 17, 2, 64, 28, 104]
abbrev dktX2_copies_13 : List UInt8 := dkwX2_copies_13 ++ dktX2_copies_14
def dkwX2_copies_12 : List UInt8 := [42, 180, 0, 46, 17, 3, 192, 28, 104, 29, 96, 42, 180, 0, 46, 17, 3, 192, 27, 104, 29, 96, 46, 79]
abbrev dktX2_copies_12 : List UInt8 := dkwX2_copies_12 ++ dktX2_copies_13
def dkwX2_copies_11 : List UInt8 := [17, 0, 192, 27, 104, 29, 96, 46, 79, 132, 3, 1, 167, 255, 54, 3, 62, 29, 17, 3, 192, 162, 0, 33]
abbrev dktX2_copies_11 : List UInt8 := dkwX2_copies_11 ++ dktX2_copies_12
def dkwX2_copies_10 : List UInt8 := [17, 0, 192, 27, 104, 29, 96, 46, 79, 42, 180, 0, 43, 17, 0, 192, 28, 104, 29, 96, 42, 180, 0, 43]
abbrev dktX2_copies_10 : List UInt8 := dkwX2_copies_10 ++ dktX2_copies_11
def dkwX2_copies_9 : List UInt8 := [17, 0, 192, 27, 104, 29, 96, 46, 79, 42, 180, 0, 40, 17, 0, 192, 28, 104, 29, 96, 42, 180, 0, 40]
abbrev dktX2_copies_9 : List UInt8 := dkwX2_copies_9 ++ dktX2_copies_10
def dkwX2_copies_8 : List UInt8 := [17, 0, 192, 27, 104, 29, 96, 46, 79, 42, 180, 0, 37, 17, 0, 192, 28, 104, 29, 96, 42, 180, 0, 37]
abbrev dktX2_copies_8 : List UInt8 := dkwX2_copies_8 ++ dktX2_copies_9
def dkwX2_copies_7 : List UInt8 := [17, 0, 192, 27, 104, 29, 96, 46, 79, 42, 180, 0, 34, 17, 0, 192, 28, 104, 29, 96, 42, 180, 0, 34]
abbrev dktX2_copies_7 : List UInt8 := dkwX2_copies_7 ++ dktX2_copies_8
def dkwX2_copies_6 : List UInt8 := [17, 0, 192, 27, 104, 29, 96, 46, 79, 42, 180, 0, 31, 17, 0, 192, 28, 104, 29, 96, 42, 180, 0, 31]
abbrev dktX2_copies_6 : List UInt8 := dkwX2_copies_6 ++ dktX2_copies_7
def dkwX2_copies_5 : List UInt8 := [17, 0, 192, 27, 104, 29, 96, 46, 79, 42, 180, 0, 28, 17, 0, 192, 28, 104, 29, 96, 42, 180, 0, 28]
abbrev dktX2_copies_5 : List UInt8 := dkwX2_copies_5 ++ dktX2_copies_6
def dkwX2_copies_4 : List UInt8 := [17, 0, 192, 27, 104, 29, 96, 46, 79, 42, 180, 0, 25, 17, 0, 192, 28, 104, 29, 96, 42, 180, 0, 25]
abbrev dktX2_copies_4 : List UInt8 := dkwX2_copies_4 ++ dktX2_copies_5
def dkwX2_copies_3 : List UInt8 := [3, 62, 29, 17, 0, 192, 162, 0, 201, 42, 180, 0, 22, 17, 0, 192, 28, 104, 29, 96, 42, 180, 0, 22]
abbrev dktX2_copies_3 : List UInt8 := dkwX2_copies_3 ++ dktX2_copies_4
def dkwX2_copies_2 : List UInt8 := [16, 16, 28, 104, 29, 96, 42, 180, 0, 19, 16, 16, 27, 104, 29, 96, 46, 79, 132, 3, 1, 167, 255, 225]
abbrev dktX2_copies_2 : List UInt8 := dkwX2_copies_2 ++ dktX2_copies_3
def dkwX2_copies_1 : List UInt8 := [42, 180, 0, 16, 28, 42, 180, 0, 16, 27, 46, 79, 3, 62, 29, 16, 16, 162, 0, 31, 42, 180, 0, 19]
abbrev dktX2_copies_1 : List UInt8 := dkwX2_copies_1 ++ dktX2_copies_2
def dkwX2_copies_0 : List UInt8 := [42, 180, 0, 7, 28, 42, 180, 0, 7, 27, 46, 79, 42, 180, 0, 13, 28, 42, 180, 0, 13, 27, 46, 79]
abbrev dktX2_copies_0 : List UInt8 := dkwX2_copies_0 ++ dktX2_copies_1
theorem dksX2_copies_0 : cX2_copies.data.toList.drop 0 = dktX2_copies_0 := by decide +kernel
theorem dksX2_copies_1 : cX2_copies.data.toList.drop 24 = dktX2_copies_1 := dk_seg dksX2_copies_0 24 rfl rfl
theorem dksX2_copies_2 : cX2_copies.data.toList.drop 48 = dktX2_copies_2 := dk_seg dksX2_copies_1 24 rfl rfl
theorem dksX2_copies_3 : cX2_copies.data.toList.drop 72 = dktX2_copies_3 := dk_seg dksX2_copies_2 24 rfl rfl
theorem dksX2_copies_4 : cX2_copies.data.toList.drop 96 = dktX2_copies_4 := dk_seg dksX2_copies_3 24 rfl rfl
theorem dksX2_copies_5 : cX2_copies.data.toList.drop 120 = dktX2_copies_5 := dk_seg dksX2_copies_4 24 rfl rfl
theorem dksX2_copies_6 : cX2_copies.data.toList.drop 144 = dktX2_copies_6 := dk_seg dksX2_copies_5 24 rfl rfl
theorem dksX2_copies_7 : cX2_copies.data.toList.drop 168 = dktX2_copies_7 := dk_seg dksX2_copies_6 24 rfl rfl
theorem dksX2_copies_8 : cX2_copies.data.toList.drop 192 = dktX2_copies_8 := dk_seg dksX2_copies_7 24 rfl rfl
theorem dksX2_copies_9 : cX2_copies.data.toList.drop 216 = dktX2_copies_9 := dk_seg dksX2_copies_8 24 rfl rfl
theorem dksX2_copies_10 : cX2_copies.data.toList.drop 240 = dktX2_copies_10 := dk_seg dksX2_copies_9 24 rfl rfl
theorem dksX2_copies_11 : cX2_copies.data.toList.drop 264 = dktX2_copies_11 := dk_seg dksX2_copies_10 24 rfl rfl
theorem dksX2_copies_12 : cX2_copies.data.toList.drop 288 = dktX2_copies_12 := dk_seg dksX2_copies_11 24 rfl rfl
theorem dksX2_copies_13 : cX2_copies.data.toList.drop 312 = dktX2_copies_13 := dk_seg dksX2_copies_12 24 rfl rfl
theorem dksX2_copies_14 : cX2_copies.data.toList.drop 336 = dktX2_copies_14 := dk_seg dksX2_copies_13 24 rfl rfl
theorem dksX2_copies_15 : cX2_copies.data.toList.drop 360 = dktX2_copies_15 := dk_seg dksX2_copies_14 24 rfl rfl
theorem dksX2_copies_16 : cX2_copies.data.toList.drop 384 = dktX2_copies_16 := dk_seg dksX2_copies_15 24 rfl rfl
theorem dksX2_copies_17 : cX2_copies.data.toList.drop 408 = dktX2_copies_17 := dk_seg dksX2_copies_16 24 rfl rfl
theorem dX2_copies_0 : decode cX2_copies 0 = .ok (.aload_n 0, 1) := dk_42 (dk_at dksX2_copies_0 0 rfl rfl)
theorem dX2_copies_1 : decode cX2_copies 1 = .ok (.getfield 7, 3) := dk_180 0 7 (dk_at dksX2_copies_0 1 rfl rfl)
theorem dX2_copies_4 : decode cX2_copies 4 = .ok (.iload_n 2, 1) := dk_28 (dk_at dksX2_copies_0 4 rfl rfl)
theorem dX2_copies_5 : decode cX2_copies 5 = .ok (.aload_n 0, 1) := dk_42 (dk_at dksX2_copies_0 5 rfl rfl)
theorem dX2_copies_6 : decode cX2_copies 6 = .ok (.getfield 7, 3) := dk_180 0 7 (dk_at dksX2_copies_0 6 rfl rfl)
theorem dX2_copies_9 : decode cX2_copies 9 = .ok (.iload_n 1, 1) := dk_27 (dk_at dksX2_copies_0 9 rfl rfl)
theorem dX2_copies_10 : decode cX2_copies 10 = .ok (.iaload, 1) := dk_46 (dk_at dksX2_copies_0 10 rfl rfl)
theorem dX2_copies_11 : decode cX2_copies 11 = .ok (.iastore, 1) := dk_79 (dk_at dksX2_copies_0 11 rfl rfl)
theorem dX2_copies_12 : decode cX2_copies 12 = .ok (.aload_n 0, 1) := dk_42 (dk_at dksX2_copies_0 12 rfl rfl)
theorem dX2_copies_13 : decode cX2_copies 13 = .ok (.getfield 13, 3) := dk_180 0 13 (dk_at dksX2_copies_0 13 rfl rfl)
theorem dX2_copies_16 : decode cX2_copies 16 = .ok (.iload_n 2, 1) := dk_28 (dk_at dksX2_copies_0 16 rfl rfl)
theorem dX2_copies_17 : decode cX2_copies 17 = .ok (.aload_n 0, 1) := dk_42 (dk_at dksX2_copies_0 17 rfl rfl)
theorem dX2_copies_18 : decode cX2_copies 18 = .ok (.getfield 13, 3) := dk_180 0 13 (dk_at dksX2_copies_0 18 rfl rfl)
theorem dX2_copies_21 : decode cX2_copies 21 = .ok (.iload_n 1, 1) := dk_27 (dk_at dksX2_copies_0 21 rfl rfl)
theorem dX2_copies_22 : decode cX2_copies 22 = .ok (.iaload, 1) := dk_46 (dk_at dksX2_copies_0 22 rfl rfl)
theorem dX2_copies_23 : decode cX2_copies 23 = .ok (.iastore, 1) := dk_79 (dk_at dksX2_copies_0 23 rfl rfl)
theorem dX2_copies_24 : decode cX2_copies 24 = .ok (.aload_n 0, 1) := dk_42 (dk_at dksX2_copies_1 0 rfl rfl)
theorem dX2_copies_25 : decode cX2_copies 25 = .ok (.getfield 16, 3) := dk_180 0 16 (dk_at dksX2_copies_1 1 rfl rfl)
theorem dX2_copies_28 : decode cX2_copies 28 = .ok (.iload_n 2, 1) := dk_28 (dk_at dksX2_copies_1 4 rfl rfl)
theorem dX2_copies_29 : decode cX2_copies 29 = .ok (.aload_n 0, 1) := dk_42 (dk_at dksX2_copies_1 5 rfl rfl)
theorem dX2_copies_30 : decode cX2_copies 30 = .ok (.getfield 16, 3) := dk_180 0 16 (dk_at dksX2_copies_1 6 rfl rfl)
theorem dX2_copies_33 : decode cX2_copies 33 = .ok (.iload_n 1, 1) := dk_27 (dk_at dksX2_copies_1 9 rfl rfl)
theorem dX2_copies_34 : decode cX2_copies 34 = .ok (.iaload, 1) := dk_46 (dk_at dksX2_copies_1 10 rfl rfl)
theorem dX2_copies_35 : decode cX2_copies 35 = .ok (.iastore, 1) := dk_79 (dk_at dksX2_copies_1 11 rfl rfl)
theorem dX2_copies_36 : decode cX2_copies 36 = .ok (.iconst 0, 1) := dk_3 (dk_at dksX2_copies_1 12 rfl rfl)
theorem dX2_copies_37 : decode cX2_copies 37 = .ok (.istore_n 3, 1) := dk_62 (dk_at dksX2_copies_1 13 rfl rfl)
theorem dX2_copies_38 : decode cX2_copies 38 = .ok (.iload_n 3, 1) := dk_29 (dk_at dksX2_copies_1 14 rfl rfl)
theorem dX2_copies_39 : decode cX2_copies 39 = .ok (.bipush 16, 2) := dk_16 16 (dk_at dksX2_copies_1 15 rfl rfl)
theorem dX2_copies_41 : decode cX2_copies 41 = .ok (.if_icmp .ge 31, 3) := dk_162 0 31 (dk_at dksX2_copies_1 17 rfl rfl)
theorem dX2_copies_44 : decode cX2_copies 44 = .ok (.aload_n 0, 1) := dk_42 (dk_at dksX2_copies_1 20 rfl rfl)
theorem dX2_copies_45 : decode cX2_copies 45 = .ok (.getfield 19, 3) := dk_180 0 19 (dk_at dksX2_copies_1 21 rfl rfl)
theorem dX2_copies_48 : decode cX2_copies 48 = .ok (.bipush 16, 2) := dk_16 16 (dk_at dksX2_copies_2 0 rfl rfl)
theorem dX2_copies_50 : decode cX2_copies 50 = .ok (.iload_n 2, 1) := dk_28 (dk_at dksX2_copies_2 2 rfl rfl)
theorem dX2_copies_51 : decode cX2_copies 51 = .ok (.imul, 1) := dk_104 (dk_at dksX2_copies_2 3 rfl rfl)
theorem dX2_copies_52 : decode cX2_copies 52 = .ok (.iload_n 3, 1) := dk_29 (dk_at dksX2_copies_2 4 rfl rfl)
theorem dX2_copies_53 : decode cX2_copies 53 = .ok (.iadd, 1) := dk_96 (dk_at dksX2_copies_2 5 rfl rfl)
theorem dX2_copies_54 : decode cX2_copies 54 = .ok (.aload_n 0, 1) := dk_42 (dk_at dksX2_copies_2 6 rfl rfl)
theorem dX2_copies_55 : decode cX2_copies 55 = .ok (.getfield 19, 3) := dk_180 0 19 (dk_at dksX2_copies_2 7 rfl rfl)
theorem dX2_copies_58 : decode cX2_copies 58 = .ok (.bipush 16, 2) := dk_16 16 (dk_at dksX2_copies_2 10 rfl rfl)
theorem dX2_copies_60 : decode cX2_copies 60 = .ok (.iload_n 1, 1) := dk_27 (dk_at dksX2_copies_2 12 rfl rfl)
theorem dX2_copies_61 : decode cX2_copies 61 = .ok (.imul, 1) := dk_104 (dk_at dksX2_copies_2 13 rfl rfl)
theorem dX2_copies_62 : decode cX2_copies 62 = .ok (.iload_n 3, 1) := dk_29 (dk_at dksX2_copies_2 14 rfl rfl)
theorem dX2_copies_63 : decode cX2_copies 63 = .ok (.iadd, 1) := dk_96 (dk_at dksX2_copies_2 15 rfl rfl)
theorem dX2_copies_64 : decode cX2_copies 64 = .ok (.iaload, 1) := dk_46 (dk_at dksX2_copies_2 16 rfl rfl)
theorem dX2_copies_65 : decode cX2_copies 65 = .ok (.iastore, 1) := dk_79 (dk_at dksX2_copies_2 17 rfl rfl)
theorem dX2_copies_66 : decode cX2_copies 66 = .ok (.iinc 3 1, 3) := dk_132 3 1 (dk_at dksX2_copies_2 18 rfl rfl)
theorem dX2_copies_69 : decode cX2_copies 69 = .ok (.goto (-31), 3) := dk_167 255 225 (dk_at dksX2_copies_2 21 rfl rfl)
theorem dX2_copies_72 : decode cX2_copies 72 = .ok (.iconst 0, 1) := dk_3 (dk_at dksX2_copies_3 0 rfl rfl)
theorem dX2_copies_73 : decode cX2_copies 73 = .ok (.istore_n 3, 1) := dk_62 (dk_at dksX2_copies_3 1 rfl rfl)
theorem dX2_copies_74 : decode cX2_copies 74 = .ok (.iload_n 3, 1) := dk_29 (dk_at dksX2_copies_3 2 rfl rfl)
theorem dX2_copies_75 : decode cX2_copies 75 = .ok (.sipush 192, 3) := dk_17 0 192 (dk_at dksX2_copies_3 3 rfl rfl)
theorem dX2_copies_78 : decode cX2_copies 78 = .ok (.if_icmp .ge 201, 3) := dk_162 0 201 (dk_at dksX2_copies_3 6 rfl rfl)
theorem dX2_copies_81 : decode cX2_copies 81 = .ok (.aload_n 0, 1) := dk_42 (dk_at dksX2_copies_3 9 rfl rfl)
theorem dX2_copies_82 : decode cX2_copies 82 = .ok (.getfield 22, 3) := dk_180 0 22 (dk_at dksX2_copies_3 10 rfl rfl)
theorem dX2_copies_85 : decode cX2_copies 85 = .ok (.sipush 192, 3) := dk_17 0 192 (dk_at dksX2_copies_3 13 rfl rfl)
theorem dX2_copies_88 : decode cX2_copies 88 = .ok (.iload_n 2, 1) := dk_28 (dk_at dksX2_copies_3 16 rfl rfl)
theorem dX2_copies_89 : decode cX2_copies 89 = .ok (.imul, 1) := dk_104 (dk_at dksX2_copies_3 17 rfl rfl)
theorem dX2_copies_90 : decode cX2_copies 90 = .ok (.iload_n 3, 1) := dk_29 (dk_at dksX2_copies_3 18 rfl rfl)
theorem dX2_copies_91 : decode cX2_copies 91 = .ok (.iadd, 1) := dk_96 (dk_at dksX2_copies_3 19 rfl rfl)
theorem dX2_copies_92 : decode cX2_copies 92 = .ok (.aload_n 0, 1) := dk_42 (dk_at dksX2_copies_3 20 rfl rfl)
theorem dX2_copies_93 : decode cX2_copies 93 = .ok (.getfield 22, 3) := dk_180 0 22 (dk_at dksX2_copies_3 21 rfl rfl)
theorem dX2_copies_96 : decode cX2_copies 96 = .ok (.sipush 192, 3) := dk_17 0 192 (dk_at dksX2_copies_4 0 rfl rfl)
theorem dX2_copies_99 : decode cX2_copies 99 = .ok (.iload_n 1, 1) := dk_27 (dk_at dksX2_copies_4 3 rfl rfl)
theorem dX2_copies_100 : decode cX2_copies 100 = .ok (.imul, 1) := dk_104 (dk_at dksX2_copies_4 4 rfl rfl)
theorem dX2_copies_101 : decode cX2_copies 101 = .ok (.iload_n 3, 1) := dk_29 (dk_at dksX2_copies_4 5 rfl rfl)
theorem dX2_copies_102 : decode cX2_copies 102 = .ok (.iadd, 1) := dk_96 (dk_at dksX2_copies_4 6 rfl rfl)
theorem dX2_copies_103 : decode cX2_copies 103 = .ok (.iaload, 1) := dk_46 (dk_at dksX2_copies_4 7 rfl rfl)
theorem dX2_copies_104 : decode cX2_copies 104 = .ok (.iastore, 1) := dk_79 (dk_at dksX2_copies_4 8 rfl rfl)
theorem dX2_copies_105 : decode cX2_copies 105 = .ok (.aload_n 0, 1) := dk_42 (dk_at dksX2_copies_4 9 rfl rfl)
theorem dX2_copies_106 : decode cX2_copies 106 = .ok (.getfield 25, 3) := dk_180 0 25 (dk_at dksX2_copies_4 10 rfl rfl)
theorem dX2_copies_109 : decode cX2_copies 109 = .ok (.sipush 192, 3) := dk_17 0 192 (dk_at dksX2_copies_4 13 rfl rfl)
theorem dX2_copies_112 : decode cX2_copies 112 = .ok (.iload_n 2, 1) := dk_28 (dk_at dksX2_copies_4 16 rfl rfl)
theorem dX2_copies_113 : decode cX2_copies 113 = .ok (.imul, 1) := dk_104 (dk_at dksX2_copies_4 17 rfl rfl)
theorem dX2_copies_114 : decode cX2_copies 114 = .ok (.iload_n 3, 1) := dk_29 (dk_at dksX2_copies_4 18 rfl rfl)
theorem dX2_copies_115 : decode cX2_copies 115 = .ok (.iadd, 1) := dk_96 (dk_at dksX2_copies_4 19 rfl rfl)
theorem dX2_copies_116 : decode cX2_copies 116 = .ok (.aload_n 0, 1) := dk_42 (dk_at dksX2_copies_4 20 rfl rfl)
theorem dX2_copies_117 : decode cX2_copies 117 = .ok (.getfield 25, 3) := dk_180 0 25 (dk_at dksX2_copies_4 21 rfl rfl)
theorem dX2_copies_120 : decode cX2_copies 120 = .ok (.sipush 192, 3) := dk_17 0 192 (dk_at dksX2_copies_5 0 rfl rfl)
theorem dX2_copies_123 : decode cX2_copies 123 = .ok (.iload_n 1, 1) := dk_27 (dk_at dksX2_copies_5 3 rfl rfl)
theorem dX2_copies_124 : decode cX2_copies 124 = .ok (.imul, 1) := dk_104 (dk_at dksX2_copies_5 4 rfl rfl)
theorem dX2_copies_125 : decode cX2_copies 125 = .ok (.iload_n 3, 1) := dk_29 (dk_at dksX2_copies_5 5 rfl rfl)
theorem dX2_copies_126 : decode cX2_copies 126 = .ok (.iadd, 1) := dk_96 (dk_at dksX2_copies_5 6 rfl rfl)
theorem dX2_copies_127 : decode cX2_copies 127 = .ok (.iaload, 1) := dk_46 (dk_at dksX2_copies_5 7 rfl rfl)
theorem dX2_copies_128 : decode cX2_copies 128 = .ok (.iastore, 1) := dk_79 (dk_at dksX2_copies_5 8 rfl rfl)
theorem dX2_copies_129 : decode cX2_copies 129 = .ok (.aload_n 0, 1) := dk_42 (dk_at dksX2_copies_5 9 rfl rfl)
theorem dX2_copies_130 : decode cX2_copies 130 = .ok (.getfield 28, 3) := dk_180 0 28 (dk_at dksX2_copies_5 10 rfl rfl)
theorem dX2_copies_133 : decode cX2_copies 133 = .ok (.sipush 192, 3) := dk_17 0 192 (dk_at dksX2_copies_5 13 rfl rfl)
theorem dX2_copies_136 : decode cX2_copies 136 = .ok (.iload_n 2, 1) := dk_28 (dk_at dksX2_copies_5 16 rfl rfl)
theorem dX2_copies_137 : decode cX2_copies 137 = .ok (.imul, 1) := dk_104 (dk_at dksX2_copies_5 17 rfl rfl)
theorem dX2_copies_138 : decode cX2_copies 138 = .ok (.iload_n 3, 1) := dk_29 (dk_at dksX2_copies_5 18 rfl rfl)
theorem dX2_copies_139 : decode cX2_copies 139 = .ok (.iadd, 1) := dk_96 (dk_at dksX2_copies_5 19 rfl rfl)
theorem dX2_copies_140 : decode cX2_copies 140 = .ok (.aload_n 0, 1) := dk_42 (dk_at dksX2_copies_5 20 rfl rfl)
theorem dX2_copies_141 : decode cX2_copies 141 = .ok (.getfield 28, 3) := dk_180 0 28 (dk_at dksX2_copies_5 21 rfl rfl)
theorem dX2_copies_144 : decode cX2_copies 144 = .ok (.sipush 192, 3) := dk_17 0 192 (dk_at dksX2_copies_6 0 rfl rfl)
theorem dX2_copies_147 : decode cX2_copies 147 = .ok (.iload_n 1, 1) := dk_27 (dk_at dksX2_copies_6 3 rfl rfl)
theorem dX2_copies_148 : decode cX2_copies 148 = .ok (.imul, 1) := dk_104 (dk_at dksX2_copies_6 4 rfl rfl)
theorem dX2_copies_149 : decode cX2_copies 149 = .ok (.iload_n 3, 1) := dk_29 (dk_at dksX2_copies_6 5 rfl rfl)
theorem dX2_copies_150 : decode cX2_copies 150 = .ok (.iadd, 1) := dk_96 (dk_at dksX2_copies_6 6 rfl rfl)
theorem dX2_copies_151 : decode cX2_copies 151 = .ok (.iaload, 1) := dk_46 (dk_at dksX2_copies_6 7 rfl rfl)
theorem dX2_copies_152 : decode cX2_copies 152 = .ok (.iastore, 1) := dk_79 (dk_at dksX2_copies_6 8 rfl rfl)
theorem dX2_copies_153 : decode cX2_copies 153 = .ok (.aload_n 0, 1) := dk_42 (dk_at dksX2_copies_6 9 rfl rfl)
theorem dX2_copies_154 : decode cX2_copies 154 = .ok (.getfield 31, 3) := dk_180 0 31 (dk_at dksX2_copies_6 10 rfl rfl)
theorem dX2_copies_157 : decode cX2_copies 157 = .ok (.sipush 192, 3) := dk_17 0 192 (dk_at dksX2_copies_6 13 rfl rfl)
theorem dX2_copies_160 : decode cX2_copies 160 = .ok (.iload_n 2, 1) := dk_28 (dk_at dksX2_copies_6 16 rfl rfl)
theorem dX2_copies_161 : decode cX2_copies 161 = .ok (.imul, 1) := dk_104 (dk_at dksX2_copies_6 17 rfl rfl)
theorem dX2_copies_162 : decode cX2_copies 162 = .ok (.iload_n 3, 1) := dk_29 (dk_at dksX2_copies_6 18 rfl rfl)
theorem dX2_copies_163 : decode cX2_copies 163 = .ok (.iadd, 1) := dk_96 (dk_at dksX2_copies_6 19 rfl rfl)
theorem dX2_copies_164 : decode cX2_copies 164 = .ok (.aload_n 0, 1) := dk_42 (dk_at dksX2_copies_6 20 rfl rfl)
theorem dX2_copies_165 : decode cX2_copies 165 = .ok (.getfield 31, 3) := dk_180 0 31 (dk_at dksX2_copies_6 21 rfl rfl)
theorem dX2_copies_168 : decode cX2_copies 168 = .ok (.sipush 192, 3) := dk_17 0 192 (dk_at dksX2_copies_7 0 rfl rfl)
theorem dX2_copies_171 : decode cX2_copies 171 = .ok (.iload_n 1, 1) := dk_27 (dk_at dksX2_copies_7 3 rfl rfl)
theorem dX2_copies_172 : decode cX2_copies 172 = .ok (.imul, 1) := dk_104 (dk_at dksX2_copies_7 4 rfl rfl)
theorem dX2_copies_173 : decode cX2_copies 173 = .ok (.iload_n 3, 1) := dk_29 (dk_at dksX2_copies_7 5 rfl rfl)
theorem dX2_copies_174 : decode cX2_copies 174 = .ok (.iadd, 1) := dk_96 (dk_at dksX2_copies_7 6 rfl rfl)
theorem dX2_copies_175 : decode cX2_copies 175 = .ok (.iaload, 1) := dk_46 (dk_at dksX2_copies_7 7 rfl rfl)
theorem dX2_copies_176 : decode cX2_copies 176 = .ok (.iastore, 1) := dk_79 (dk_at dksX2_copies_7 8 rfl rfl)
theorem dX2_copies_177 : decode cX2_copies 177 = .ok (.aload_n 0, 1) := dk_42 (dk_at dksX2_copies_7 9 rfl rfl)
theorem dX2_copies_178 : decode cX2_copies 178 = .ok (.getfield 34, 3) := dk_180 0 34 (dk_at dksX2_copies_7 10 rfl rfl)
theorem dX2_copies_181 : decode cX2_copies 181 = .ok (.sipush 192, 3) := dk_17 0 192 (dk_at dksX2_copies_7 13 rfl rfl)
theorem dX2_copies_184 : decode cX2_copies 184 = .ok (.iload_n 2, 1) := dk_28 (dk_at dksX2_copies_7 16 rfl rfl)
theorem dX2_copies_185 : decode cX2_copies 185 = .ok (.imul, 1) := dk_104 (dk_at dksX2_copies_7 17 rfl rfl)
theorem dX2_copies_186 : decode cX2_copies 186 = .ok (.iload_n 3, 1) := dk_29 (dk_at dksX2_copies_7 18 rfl rfl)
theorem dX2_copies_187 : decode cX2_copies 187 = .ok (.iadd, 1) := dk_96 (dk_at dksX2_copies_7 19 rfl rfl)
theorem dX2_copies_188 : decode cX2_copies 188 = .ok (.aload_n 0, 1) := dk_42 (dk_at dksX2_copies_7 20 rfl rfl)
theorem dX2_copies_189 : decode cX2_copies 189 = .ok (.getfield 34, 3) := dk_180 0 34 (dk_at dksX2_copies_7 21 rfl rfl)
theorem dX2_copies_192 : decode cX2_copies 192 = .ok (.sipush 192, 3) := dk_17 0 192 (dk_at dksX2_copies_8 0 rfl rfl)
theorem dX2_copies_195 : decode cX2_copies 195 = .ok (.iload_n 1, 1) := dk_27 (dk_at dksX2_copies_8 3 rfl rfl)
theorem dX2_copies_196 : decode cX2_copies 196 = .ok (.imul, 1) := dk_104 (dk_at dksX2_copies_8 4 rfl rfl)
theorem dX2_copies_197 : decode cX2_copies 197 = .ok (.iload_n 3, 1) := dk_29 (dk_at dksX2_copies_8 5 rfl rfl)
theorem dX2_copies_198 : decode cX2_copies 198 = .ok (.iadd, 1) := dk_96 (dk_at dksX2_copies_8 6 rfl rfl)
theorem dX2_copies_199 : decode cX2_copies 199 = .ok (.iaload, 1) := dk_46 (dk_at dksX2_copies_8 7 rfl rfl)
theorem dX2_copies_200 : decode cX2_copies 200 = .ok (.iastore, 1) := dk_79 (dk_at dksX2_copies_8 8 rfl rfl)
theorem dX2_copies_201 : decode cX2_copies 201 = .ok (.aload_n 0, 1) := dk_42 (dk_at dksX2_copies_8 9 rfl rfl)
theorem dX2_copies_202 : decode cX2_copies 202 = .ok (.getfield 37, 3) := dk_180 0 37 (dk_at dksX2_copies_8 10 rfl rfl)
theorem dX2_copies_205 : decode cX2_copies 205 = .ok (.sipush 192, 3) := dk_17 0 192 (dk_at dksX2_copies_8 13 rfl rfl)
theorem dX2_copies_208 : decode cX2_copies 208 = .ok (.iload_n 2, 1) := dk_28 (dk_at dksX2_copies_8 16 rfl rfl)
theorem dX2_copies_209 : decode cX2_copies 209 = .ok (.imul, 1) := dk_104 (dk_at dksX2_copies_8 17 rfl rfl)
theorem dX2_copies_210 : decode cX2_copies 210 = .ok (.iload_n 3, 1) := dk_29 (dk_at dksX2_copies_8 18 rfl rfl)
theorem dX2_copies_211 : decode cX2_copies 211 = .ok (.iadd, 1) := dk_96 (dk_at dksX2_copies_8 19 rfl rfl)
theorem dX2_copies_212 : decode cX2_copies 212 = .ok (.aload_n 0, 1) := dk_42 (dk_at dksX2_copies_8 20 rfl rfl)
theorem dX2_copies_213 : decode cX2_copies 213 = .ok (.getfield 37, 3) := dk_180 0 37 (dk_at dksX2_copies_8 21 rfl rfl)
theorem dX2_copies_216 : decode cX2_copies 216 = .ok (.sipush 192, 3) := dk_17 0 192 (dk_at dksX2_copies_9 0 rfl rfl)
theorem dX2_copies_219 : decode cX2_copies 219 = .ok (.iload_n 1, 1) := dk_27 (dk_at dksX2_copies_9 3 rfl rfl)
theorem dX2_copies_220 : decode cX2_copies 220 = .ok (.imul, 1) := dk_104 (dk_at dksX2_copies_9 4 rfl rfl)
theorem dX2_copies_221 : decode cX2_copies 221 = .ok (.iload_n 3, 1) := dk_29 (dk_at dksX2_copies_9 5 rfl rfl)
theorem dX2_copies_222 : decode cX2_copies 222 = .ok (.iadd, 1) := dk_96 (dk_at dksX2_copies_9 6 rfl rfl)
theorem dX2_copies_223 : decode cX2_copies 223 = .ok (.iaload, 1) := dk_46 (dk_at dksX2_copies_9 7 rfl rfl)
theorem dX2_copies_224 : decode cX2_copies 224 = .ok (.iastore, 1) := dk_79 (dk_at dksX2_copies_9 8 rfl rfl)
theorem dX2_copies_225 : decode cX2_copies 225 = .ok (.aload_n 0, 1) := dk_42 (dk_at dksX2_copies_9 9 rfl rfl)
theorem dX2_copies_226 : decode cX2_copies 226 = .ok (.getfield 40, 3) := dk_180 0 40 (dk_at dksX2_copies_9 10 rfl rfl)
theorem dX2_copies_229 : decode cX2_copies 229 = .ok (.sipush 192, 3) := dk_17 0 192 (dk_at dksX2_copies_9 13 rfl rfl)
theorem dX2_copies_232 : decode cX2_copies 232 = .ok (.iload_n 2, 1) := dk_28 (dk_at dksX2_copies_9 16 rfl rfl)
theorem dX2_copies_233 : decode cX2_copies 233 = .ok (.imul, 1) := dk_104 (dk_at dksX2_copies_9 17 rfl rfl)
theorem dX2_copies_234 : decode cX2_copies 234 = .ok (.iload_n 3, 1) := dk_29 (dk_at dksX2_copies_9 18 rfl rfl)
theorem dX2_copies_235 : decode cX2_copies 235 = .ok (.iadd, 1) := dk_96 (dk_at dksX2_copies_9 19 rfl rfl)
theorem dX2_copies_236 : decode cX2_copies 236 = .ok (.aload_n 0, 1) := dk_42 (dk_at dksX2_copies_9 20 rfl rfl)
theorem dX2_copies_237 : decode cX2_copies 237 = .ok (.getfield 40, 3) := dk_180 0 40 (dk_at dksX2_copies_9 21 rfl rfl)
theorem dX2_copies_240 : decode cX2_copies 240 = .ok (.sipush 192, 3) := dk_17 0 192 (dk_at dksX2_copies_10 0 rfl rfl)
theorem dX2_copies_243 : decode cX2_copies 243 = .ok (.iload_n 1, 1) := dk_27 (dk_at dksX2_copies_10 3 rfl rfl)
theorem dX2_copies_244 : decode cX2_copies 244 = .ok (.imul, 1) := dk_104 (dk_at dksX2_copies_10 4 rfl rfl)
theorem dX2_copies_245 : decode cX2_copies 245 = .ok (.iload_n 3, 1) := dk_29 (dk_at dksX2_copies_10 5 rfl rfl)
theorem dX2_copies_246 : decode cX2_copies 246 = .ok (.iadd, 1) := dk_96 (dk_at dksX2_copies_10 6 rfl rfl)
theorem dX2_copies_247 : decode cX2_copies 247 = .ok (.iaload, 1) := dk_46 (dk_at dksX2_copies_10 7 rfl rfl)
theorem dX2_copies_248 : decode cX2_copies 248 = .ok (.iastore, 1) := dk_79 (dk_at dksX2_copies_10 8 rfl rfl)
theorem dX2_copies_249 : decode cX2_copies 249 = .ok (.aload_n 0, 1) := dk_42 (dk_at dksX2_copies_10 9 rfl rfl)
theorem dX2_copies_250 : decode cX2_copies 250 = .ok (.getfield 43, 3) := dk_180 0 43 (dk_at dksX2_copies_10 10 rfl rfl)
theorem dX2_copies_253 : decode cX2_copies 253 = .ok (.sipush 192, 3) := dk_17 0 192 (dk_at dksX2_copies_10 13 rfl rfl)
theorem dX2_copies_256 : decode cX2_copies 256 = .ok (.iload_n 2, 1) := dk_28 (dk_at dksX2_copies_10 16 rfl rfl)
theorem dX2_copies_257 : decode cX2_copies 257 = .ok (.imul, 1) := dk_104 (dk_at dksX2_copies_10 17 rfl rfl)
theorem dX2_copies_258 : decode cX2_copies 258 = .ok (.iload_n 3, 1) := dk_29 (dk_at dksX2_copies_10 18 rfl rfl)
theorem dX2_copies_259 : decode cX2_copies 259 = .ok (.iadd, 1) := dk_96 (dk_at dksX2_copies_10 19 rfl rfl)
theorem dX2_copies_260 : decode cX2_copies 260 = .ok (.aload_n 0, 1) := dk_42 (dk_at dksX2_copies_10 20 rfl rfl)
theorem dX2_copies_261 : decode cX2_copies 261 = .ok (.getfield 43, 3) := dk_180 0 43 (dk_at dksX2_copies_10 21 rfl rfl)
theorem dX2_copies_264 : decode cX2_copies 264 = .ok (.sipush 192, 3) := dk_17 0 192 (dk_at dksX2_copies_11 0 rfl rfl)
theorem dX2_copies_267 : decode cX2_copies 267 = .ok (.iload_n 1, 1) := dk_27 (dk_at dksX2_copies_11 3 rfl rfl)
theorem dX2_copies_268 : decode cX2_copies 268 = .ok (.imul, 1) := dk_104 (dk_at dksX2_copies_11 4 rfl rfl)
theorem dX2_copies_269 : decode cX2_copies 269 = .ok (.iload_n 3, 1) := dk_29 (dk_at dksX2_copies_11 5 rfl rfl)
theorem dX2_copies_270 : decode cX2_copies 270 = .ok (.iadd, 1) := dk_96 (dk_at dksX2_copies_11 6 rfl rfl)
theorem dX2_copies_271 : decode cX2_copies 271 = .ok (.iaload, 1) := dk_46 (dk_at dksX2_copies_11 7 rfl rfl)
theorem dX2_copies_272 : decode cX2_copies 272 = .ok (.iastore, 1) := dk_79 (dk_at dksX2_copies_11 8 rfl rfl)
theorem dX2_copies_273 : decode cX2_copies 273 = .ok (.iinc 3 1, 3) := dk_132 3 1 (dk_at dksX2_copies_11 9 rfl rfl)
theorem dX2_copies_276 : decode cX2_copies 276 = .ok (.goto (-202), 3) := dk_167 255 54 (dk_at dksX2_copies_11 12 rfl rfl)
theorem dX2_copies_279 : decode cX2_copies 279 = .ok (.iconst 0, 1) := dk_3 (dk_at dksX2_copies_11 15 rfl rfl)
theorem dX2_copies_280 : decode cX2_copies 280 = .ok (.istore_n 3, 1) := dk_62 (dk_at dksX2_copies_11 16 rfl rfl)
theorem dX2_copies_281 : decode cX2_copies 281 = .ok (.iload_n 3, 1) := dk_29 (dk_at dksX2_copies_11 17 rfl rfl)
theorem dX2_copies_282 : decode cX2_copies 282 = .ok (.sipush 960, 3) := dk_17 3 192 (dk_at dksX2_copies_11 18 rfl rfl)
theorem dX2_copies_285 : decode cX2_copies 285 = .ok (.if_icmp .ge 33, 3) := dk_162 0 33 (dk_at dksX2_copies_11 21 rfl rfl)
theorem dX2_copies_288 : decode cX2_copies 288 = .ok (.aload_n 0, 1) := dk_42 (dk_at dksX2_copies_12 0 rfl rfl)
theorem dX2_copies_289 : decode cX2_copies 289 = .ok (.getfield 46, 3) := dk_180 0 46 (dk_at dksX2_copies_12 1 rfl rfl)
theorem dX2_copies_292 : decode cX2_copies 292 = .ok (.sipush 960, 3) := dk_17 3 192 (dk_at dksX2_copies_12 4 rfl rfl)
theorem dX2_copies_295 : decode cX2_copies 295 = .ok (.iload_n 2, 1) := dk_28 (dk_at dksX2_copies_12 7 rfl rfl)
theorem dX2_copies_296 : decode cX2_copies 296 = .ok (.imul, 1) := dk_104 (dk_at dksX2_copies_12 8 rfl rfl)
theorem dX2_copies_297 : decode cX2_copies 297 = .ok (.iload_n 3, 1) := dk_29 (dk_at dksX2_copies_12 9 rfl rfl)
theorem dX2_copies_298 : decode cX2_copies 298 = .ok (.iadd, 1) := dk_96 (dk_at dksX2_copies_12 10 rfl rfl)
theorem dX2_copies_299 : decode cX2_copies 299 = .ok (.aload_n 0, 1) := dk_42 (dk_at dksX2_copies_12 11 rfl rfl)
theorem dX2_copies_300 : decode cX2_copies 300 = .ok (.getfield 46, 3) := dk_180 0 46 (dk_at dksX2_copies_12 12 rfl rfl)
theorem dX2_copies_303 : decode cX2_copies 303 = .ok (.sipush 960, 3) := dk_17 3 192 (dk_at dksX2_copies_12 15 rfl rfl)
theorem dX2_copies_306 : decode cX2_copies 306 = .ok (.iload_n 1, 1) := dk_27 (dk_at dksX2_copies_12 18 rfl rfl)
theorem dX2_copies_307 : decode cX2_copies 307 = .ok (.imul, 1) := dk_104 (dk_at dksX2_copies_12 19 rfl rfl)
theorem dX2_copies_308 : decode cX2_copies 308 = .ok (.iload_n 3, 1) := dk_29 (dk_at dksX2_copies_12 20 rfl rfl)
theorem dX2_copies_309 : decode cX2_copies 309 = .ok (.iadd, 1) := dk_96 (dk_at dksX2_copies_12 21 rfl rfl)
theorem dX2_copies_310 : decode cX2_copies 310 = .ok (.iaload, 1) := dk_46 (dk_at dksX2_copies_12 22 rfl rfl)
theorem dX2_copies_311 : decode cX2_copies 311 = .ok (.iastore, 1) := dk_79 (dk_at dksX2_copies_12 23 rfl rfl)
theorem dX2_copies_312 : decode cX2_copies 312 = .ok (.iinc 3 1, 3) := dk_132 3 1 (dk_at dksX2_copies_13 0 rfl rfl)
theorem dX2_copies_315 : decode cX2_copies 315 = .ok (.goto (-34), 3) := dk_167 255 222 (dk_at dksX2_copies_13 3 rfl rfl)
theorem dX2_copies_318 : decode cX2_copies 318 = .ok (.iconst 0, 1) := dk_3 (dk_at dksX2_copies_13 6 rfl rfl)
theorem dX2_copies_319 : decode cX2_copies 319 = .ok (.istore_n 3, 1) := dk_62 (dk_at dksX2_copies_13 7 rfl rfl)
theorem dX2_copies_320 : decode cX2_copies 320 = .ok (.iload_n 3, 1) := dk_29 (dk_at dksX2_copies_13 8 rfl rfl)
theorem dX2_copies_321 : decode cX2_copies 321 = .ok (.sipush 576, 3) := dk_17 2 64 (dk_at dksX2_copies_13 9 rfl rfl)
theorem dX2_copies_324 : decode cX2_copies 324 = .ok (.if_icmp .ge 57, 3) := dk_162 0 57 (dk_at dksX2_copies_13 12 rfl rfl)
theorem dX2_copies_327 : decode cX2_copies 327 = .ok (.aload_n 0, 1) := dk_42 (dk_at dksX2_copies_13 15 rfl rfl)
theorem dX2_copies_328 : decode cX2_copies 328 = .ok (.getfield 49, 3) := dk_180 0 49 (dk_at dksX2_copies_13 16 rfl rfl)
theorem dX2_copies_331 : decode cX2_copies 331 = .ok (.sipush 576, 3) := dk_17 2 64 (dk_at dksX2_copies_13 19 rfl rfl)
theorem dX2_copies_334 : decode cX2_copies 334 = .ok (.iload_n 2, 1) := dk_28 (dk_at dksX2_copies_13 22 rfl rfl)
theorem dX2_copies_335 : decode cX2_copies 335 = .ok (.imul, 1) := dk_104 (dk_at dksX2_copies_13 23 rfl rfl)
theorem dX2_copies_336 : decode cX2_copies 336 = .ok (.iload_n 3, 1) := dk_29 (dk_at dksX2_copies_14 0 rfl rfl)
theorem dX2_copies_337 : decode cX2_copies 337 = .ok (.iadd, 1) := dk_96 (dk_at dksX2_copies_14 1 rfl rfl)
theorem dX2_copies_338 : decode cX2_copies 338 = .ok (.aload_n 0, 1) := dk_42 (dk_at dksX2_copies_14 2 rfl rfl)
theorem dX2_copies_339 : decode cX2_copies 339 = .ok (.getfield 49, 3) := dk_180 0 49 (dk_at dksX2_copies_14 3 rfl rfl)
theorem dX2_copies_342 : decode cX2_copies 342 = .ok (.sipush 576, 3) := dk_17 2 64 (dk_at dksX2_copies_14 6 rfl rfl)
theorem dX2_copies_345 : decode cX2_copies 345 = .ok (.iload_n 1, 1) := dk_27 (dk_at dksX2_copies_14 9 rfl rfl)
theorem dX2_copies_346 : decode cX2_copies 346 = .ok (.imul, 1) := dk_104 (dk_at dksX2_copies_14 10 rfl rfl)
theorem dX2_copies_347 : decode cX2_copies 347 = .ok (.iload_n 3, 1) := dk_29 (dk_at dksX2_copies_14 11 rfl rfl)
theorem dX2_copies_348 : decode cX2_copies 348 = .ok (.iadd, 1) := dk_96 (dk_at dksX2_copies_14 12 rfl rfl)
theorem dX2_copies_349 : decode cX2_copies 349 = .ok (.iaload, 1) := dk_46 (dk_at dksX2_copies_14 13 rfl rfl)
theorem dX2_copies_350 : decode cX2_copies 350 = .ok (.iastore, 1) := dk_79 (dk_at dksX2_copies_14 14 rfl rfl)
theorem dX2_copies_351 : decode cX2_copies 351 = .ok (.aload_n 0, 1) := dk_42 (dk_at dksX2_copies_14 15 rfl rfl)
theorem dX2_copies_352 : decode cX2_copies 352 = .ok (.getfield 52, 3) := dk_180 0 52 (dk_at dksX2_copies_14 16 rfl rfl)
theorem dX2_copies_355 : decode cX2_copies 355 = .ok (.sipush 576, 3) := dk_17 2 64 (dk_at dksX2_copies_14 19 rfl rfl)
theorem dX2_copies_358 : decode cX2_copies 358 = .ok (.iload_n 2, 1) := dk_28 (dk_at dksX2_copies_14 22 rfl rfl)
theorem dX2_copies_359 : decode cX2_copies 359 = .ok (.imul, 1) := dk_104 (dk_at dksX2_copies_14 23 rfl rfl)
theorem dX2_copies_360 : decode cX2_copies 360 = .ok (.iload_n 3, 1) := dk_29 (dk_at dksX2_copies_15 0 rfl rfl)
theorem dX2_copies_361 : decode cX2_copies 361 = .ok (.iadd, 1) := dk_96 (dk_at dksX2_copies_15 1 rfl rfl)
theorem dX2_copies_362 : decode cX2_copies 362 = .ok (.aload_n 0, 1) := dk_42 (dk_at dksX2_copies_15 2 rfl rfl)
theorem dX2_copies_363 : decode cX2_copies 363 = .ok (.getfield 52, 3) := dk_180 0 52 (dk_at dksX2_copies_15 3 rfl rfl)
theorem dX2_copies_366 : decode cX2_copies 366 = .ok (.sipush 576, 3) := dk_17 2 64 (dk_at dksX2_copies_15 6 rfl rfl)
theorem dX2_copies_369 : decode cX2_copies 369 = .ok (.iload_n 1, 1) := dk_27 (dk_at dksX2_copies_15 9 rfl rfl)
theorem dX2_copies_370 : decode cX2_copies 370 = .ok (.imul, 1) := dk_104 (dk_at dksX2_copies_15 10 rfl rfl)
theorem dX2_copies_371 : decode cX2_copies 371 = .ok (.iload_n 3, 1) := dk_29 (dk_at dksX2_copies_15 11 rfl rfl)
theorem dX2_copies_372 : decode cX2_copies 372 = .ok (.iadd, 1) := dk_96 (dk_at dksX2_copies_15 12 rfl rfl)
theorem dX2_copies_373 : decode cX2_copies 373 = .ok (.iaload, 1) := dk_46 (dk_at dksX2_copies_15 13 rfl rfl)
theorem dX2_copies_374 : decode cX2_copies 374 = .ok (.iastore, 1) := dk_79 (dk_at dksX2_copies_15 14 rfl rfl)
theorem dX2_copies_375 : decode cX2_copies 375 = .ok (.iinc 3 1, 3) := dk_132 3 1 (dk_at dksX2_copies_15 15 rfl rfl)
theorem dX2_copies_378 : decode cX2_copies 378 = .ok (.goto (-58), 3) := dk_167 255 198 (dk_at dksX2_copies_15 18 rfl rfl)
theorem dX2_copies_381 : decode cX2_copies 381 = .ok (.iconst 0, 1) := dk_3 (dk_at dksX2_copies_15 21 rfl rfl)
theorem dX2_copies_382 : decode cX2_copies 382 = .ok (.istore_n 3, 1) := dk_62 (dk_at dksX2_copies_15 22 rfl rfl)
theorem dX2_copies_383 : decode cX2_copies 383 = .ok (.iload_n 3, 1) := dk_29 (dk_at dksX2_copies_15 23 rfl rfl)
theorem dX2_copies_384 : decode cX2_copies 384 = .ok (.sipush 196, 3) := dk_17 0 196 (dk_at dksX2_copies_16 0 rfl rfl)
theorem dX2_copies_387 : decode cX2_copies 387 = .ok (.if_icmp .ge 33, 3) := dk_162 0 33 (dk_at dksX2_copies_16 3 rfl rfl)
theorem dX2_copies_390 : decode cX2_copies 390 = .ok (.aload_n 0, 1) := dk_42 (dk_at dksX2_copies_16 6 rfl rfl)
theorem dX2_copies_391 : decode cX2_copies 391 = .ok (.getfield 55, 3) := dk_180 0 55 (dk_at dksX2_copies_16 7 rfl rfl)
theorem dX2_copies_394 : decode cX2_copies 394 = .ok (.sipush 196, 3) := dk_17 0 196 (dk_at dksX2_copies_16 10 rfl rfl)
theorem dX2_copies_397 : decode cX2_copies 397 = .ok (.iload_n 2, 1) := dk_28 (dk_at dksX2_copies_16 13 rfl rfl)
theorem dX2_copies_398 : decode cX2_copies 398 = .ok (.imul, 1) := dk_104 (dk_at dksX2_copies_16 14 rfl rfl)
theorem dX2_copies_399 : decode cX2_copies 399 = .ok (.iload_n 3, 1) := dk_29 (dk_at dksX2_copies_16 15 rfl rfl)
theorem dX2_copies_400 : decode cX2_copies 400 = .ok (.iadd, 1) := dk_96 (dk_at dksX2_copies_16 16 rfl rfl)
theorem dX2_copies_401 : decode cX2_copies 401 = .ok (.aload_n 0, 1) := dk_42 (dk_at dksX2_copies_16 17 rfl rfl)
theorem dX2_copies_402 : decode cX2_copies 402 = .ok (.getfield 55, 3) := dk_180 0 55 (dk_at dksX2_copies_16 18 rfl rfl)
theorem dX2_copies_405 : decode cX2_copies 405 = .ok (.sipush 196, 3) := dk_17 0 196 (dk_at dksX2_copies_16 21 rfl rfl)
theorem dX2_copies_408 : decode cX2_copies 408 = .ok (.iload_n 1, 1) := dk_27 (dk_at dksX2_copies_17 0 rfl rfl)
theorem dX2_copies_409 : decode cX2_copies 409 = .ok (.imul, 1) := dk_104 (dk_at dksX2_copies_17 1 rfl rfl)
theorem dX2_copies_410 : decode cX2_copies 410 = .ok (.iload_n 3, 1) := dk_29 (dk_at dksX2_copies_17 2 rfl rfl)
theorem dX2_copies_411 : decode cX2_copies 411 = .ok (.iadd, 1) := dk_96 (dk_at dksX2_copies_17 3 rfl rfl)
theorem dX2_copies_412 : decode cX2_copies 412 = .ok (.iaload, 1) := dk_46 (dk_at dksX2_copies_17 4 rfl rfl)
theorem dX2_copies_413 : decode cX2_copies 413 = .ok (.iastore, 1) := dk_79 (dk_at dksX2_copies_17 5 rfl rfl)
theorem dX2_copies_414 : decode cX2_copies 414 = .ok (.iinc 3 1, 3) := dk_132 3 1 (dk_at dksX2_copies_17 6 rfl rfl)
theorem dX2_copies_417 : decode cX2_copies 417 = .ok (.goto (-34), 3) := dk_167 255 222 (dk_at dksX2_copies_17 9 rfl rfl)
theorem dX2_copies_420 : decode cX2_copies 420 = .ok (.return_, 1) := dk_177 (dk_at dksX2_copies_17 12 rfl rfl)
abbrev cX2_back : ByteArray := prog_23_method_91_code
def yX2_back : MethodName := ⟨RX2, "back", "(I)Z"⟩
def dkwX2_back_1 : List UInt8 := [4, 172]
abbrev dktX2_back_1 : List UInt8 := dkwX2_back_1 ++ []
def dkwX2_back_0 : List UInt8 := [27, 3, 42, 180, 1, 226, 4, 100, 184, 0, 176, 154, 0, 5, 3, 172, 42, 27, 4, 96, 3, 182, 1, 229]
abbrev dktX2_back_0 : List UInt8 := dkwX2_back_0 ++ dktX2_back_1
theorem dksX2_back_0 : cX2_back.data.toList.drop 0 = dktX2_back_0 := by decide +kernel
theorem dksX2_back_1 : cX2_back.data.toList.drop 24 = dktX2_back_1 := dk_seg dksX2_back_0 24 rfl rfl
theorem dX2_back_0 : decode cX2_back 0 = .ok (.iload_n 1, 1) := dk_27 (dk_at dksX2_back_0 0 rfl rfl)
theorem dX2_back_1 : decode cX2_back 1 = .ok (.iconst 0, 1) := dk_3 (dk_at dksX2_back_0 1 rfl rfl)
theorem dX2_back_2 : decode cX2_back 2 = .ok (.aload_n 0, 1) := dk_42 (dk_at dksX2_back_0 2 rfl rfl)
theorem dX2_back_3 : decode cX2_back 3 = .ok (.getfield 482, 3) := dk_180 1 226 (dk_at dksX2_back_0 3 rfl rfl)
theorem dX2_back_6 : decode cX2_back 6 = .ok (.iconst 1, 1) := dk_4 (dk_at dksX2_back_0 6 rfl rfl)
theorem dX2_back_7 : decode cX2_back 7 = .ok (.isub, 1) := dk_100 (dk_at dksX2_back_0 7 rfl rfl)
theorem dX2_back_8 : decode cX2_back 8 = .ok (.invokestatic 176, 3) := dk_184 0 176 (dk_at dksX2_back_0 8 rfl rfl)
theorem dX2_back_11 : decode cX2_back 11 = .ok (.ifCond .ne 5, 3) := dk_154 0 5 (dk_at dksX2_back_0 11 rfl rfl)
theorem dX2_back_14 : decode cX2_back 14 = .ok (.iconst 0, 1) := dk_3 (dk_at dksX2_back_0 14 rfl rfl)
theorem dX2_back_15 : decode cX2_back 15 = .ok (.ireturn, 1) := dk_172 (dk_at dksX2_back_0 15 rfl rfl)
theorem dX2_back_16 : decode cX2_back 16 = .ok (.aload_n 0, 1) := dk_42 (dk_at dksX2_back_0 16 rfl rfl)
theorem dX2_back_17 : decode cX2_back 17 = .ok (.iload_n 1, 1) := dk_27 (dk_at dksX2_back_0 17 rfl rfl)
theorem dX2_back_18 : decode cX2_back 18 = .ok (.iconst 1, 1) := dk_4 (dk_at dksX2_back_0 18 rfl rfl)
theorem dX2_back_19 : decode cX2_back 19 = .ok (.iadd, 1) := dk_96 (dk_at dksX2_back_0 19 rfl rfl)
theorem dX2_back_20 : decode cX2_back 20 = .ok (.iconst 0, 1) := dk_3 (dk_at dksX2_back_0 20 rfl rfl)
theorem dX2_back_21 : decode cX2_back 21 = .ok (.invokevirtual 485, 3) := dk_182 1 229 (dk_at dksX2_back_0 21 rfl rfl)
theorem dX2_back_24 : decode cX2_back 24 = .ok (.iconst 1, 1) := dk_4 (dk_at dksX2_back_1 0 rfl rfl)
theorem dX2_back_25 : decode cX2_back 25 = .ok (.ireturn, 1) := dk_172 (dk_at dksX2_back_1 1 rfl rfl)
abbrev cX2_count : ByteArray := prog_23_method_93_code
def yX2_count : MethodName := ⟨RX2, "count", "(I)I"⟩
def dkwX2_count_3 : List UInt8 := [180, 0, 148, 172, 42, 182, 1, 232, 172, 42, 180, 1, 226, 172, 2, 172]
abbrev dktX2_count_3 : List UInt8 := dkwX2_count_3 ++ []
def dkwX2_count_2 : List UInt8 := [42, 180, 0, 7, 3, 46, 172, 42, 180, 0, 13, 3, 46, 172, 42, 180, 0, 16, 3, 46, 172, 42]
abbrev dktX2_count_2 : List UInt8 := dkwX2_count_2 ++ dktX2_count_3
def dkwX2_count_1 : List UInt8 := [170, 0, 0, 0, 0, 0, 75, 0, 0, 0, 0, 0, 0, 0, 5, 0, 0, 0, 39, 0, 0, 0, 46, 0, 0, 0, 53, 0, 0, 0, 60, 0, 0, 0, 65, 0, 0, 0, 70]
abbrev dktX2_count_1 : List UInt8 := dkwX2_count_1 ++ dktX2_count_2
def dkwX2_count_0 : List UInt8 := [27]
abbrev dktX2_count_0 : List UInt8 := dkwX2_count_0 ++ dktX2_count_1
theorem dksX2_count_0 : cX2_count.data.toList.drop 0 = dktX2_count_0 := by decide +kernel
theorem dksX2_count_1 : cX2_count.data.toList.drop 1 = dktX2_count_1 := dk_seg dksX2_count_0 1 rfl rfl
theorem dksX2_count_2 : cX2_count.data.toList.drop 40 = dktX2_count_2 := dk_seg dksX2_count_1 39 rfl rfl
theorem dksX2_count_3 : cX2_count.data.toList.drop 62 = dktX2_count_3 := dk_seg dksX2_count_2 22 rfl rfl
theorem dX2_count_0 : decode cX2_count 0 = .ok (.iload_n 1, 1) := dk_27 (dk_at dksX2_count_0 0 rfl rfl)
theorem dX2_count_1 : decode cX2_count 1 = .ok (.tableswitch 75 0 5 #[39, 46, 53, 60, 65, 70], 39) := by decide +kernel
theorem dX2_count_40 : decode cX2_count 40 = .ok (.aload_n 0, 1) := dk_42 (dk_at dksX2_count_2 0 rfl rfl)
theorem dX2_count_41 : decode cX2_count 41 = .ok (.getfield 7, 3) := dk_180 0 7 (dk_at dksX2_count_2 1 rfl rfl)
theorem dX2_count_44 : decode cX2_count 44 = .ok (.iconst 0, 1) := dk_3 (dk_at dksX2_count_2 4 rfl rfl)
theorem dX2_count_45 : decode cX2_count 45 = .ok (.iaload, 1) := dk_46 (dk_at dksX2_count_2 5 rfl rfl)
theorem dX2_count_46 : decode cX2_count 46 = .ok (.ireturn, 1) := dk_172 (dk_at dksX2_count_2 6 rfl rfl)
theorem dX2_count_47 : decode cX2_count 47 = .ok (.aload_n 0, 1) := dk_42 (dk_at dksX2_count_2 7 rfl rfl)
theorem dX2_count_48 : decode cX2_count 48 = .ok (.getfield 13, 3) := dk_180 0 13 (dk_at dksX2_count_2 8 rfl rfl)
theorem dX2_count_51 : decode cX2_count 51 = .ok (.iconst 0, 1) := dk_3 (dk_at dksX2_count_2 11 rfl rfl)
theorem dX2_count_52 : decode cX2_count 52 = .ok (.iaload, 1) := dk_46 (dk_at dksX2_count_2 12 rfl rfl)
theorem dX2_count_53 : decode cX2_count 53 = .ok (.ireturn, 1) := dk_172 (dk_at dksX2_count_2 13 rfl rfl)
theorem dX2_count_54 : decode cX2_count 54 = .ok (.aload_n 0, 1) := dk_42 (dk_at dksX2_count_2 14 rfl rfl)
theorem dX2_count_55 : decode cX2_count 55 = .ok (.getfield 16, 3) := dk_180 0 16 (dk_at dksX2_count_2 15 rfl rfl)
theorem dX2_count_58 : decode cX2_count 58 = .ok (.iconst 0, 1) := dk_3 (dk_at dksX2_count_2 18 rfl rfl)
theorem dX2_count_59 : decode cX2_count 59 = .ok (.iaload, 1) := dk_46 (dk_at dksX2_count_2 19 rfl rfl)
theorem dX2_count_60 : decode cX2_count 60 = .ok (.ireturn, 1) := dk_172 (dk_at dksX2_count_2 20 rfl rfl)
theorem dX2_count_61 : decode cX2_count 61 = .ok (.aload_n 0, 1) := dk_42 (dk_at dksX2_count_2 21 rfl rfl)
theorem dX2_count_62 : decode cX2_count 62 = .ok (.getfield 148, 3) := dk_180 0 148 (dk_at dksX2_count_3 0 rfl rfl)
theorem dX2_count_65 : decode cX2_count 65 = .ok (.ireturn, 1) := dk_172 (dk_at dksX2_count_3 3 rfl rfl)
theorem dX2_count_66 : decode cX2_count 66 = .ok (.aload_n 0, 1) := dk_42 (dk_at dksX2_count_3 4 rfl rfl)
theorem dX2_count_67 : decode cX2_count 67 = .ok (.invokevirtual 488, 3) := dk_182 1 232 (dk_at dksX2_count_3 5 rfl rfl)
theorem dX2_count_70 : decode cX2_count 70 = .ok (.ireturn, 1) := dk_172 (dk_at dksX2_count_3 8 rfl rfl)
theorem dX2_count_71 : decode cX2_count 71 = .ok (.aload_n 0, 1) := dk_42 (dk_at dksX2_count_3 9 rfl rfl)
theorem dX2_count_72 : decode cX2_count 72 = .ok (.getfield 482, 3) := dk_180 1 226 (dk_at dksX2_count_3 10 rfl rfl)
theorem dX2_count_75 : decode cX2_count 75 = .ok (.ireturn, 1) := dk_172 (dk_at dksX2_count_3 13 rfl rfl)
theorem dX2_count_76 : decode cX2_count 76 = .ok (.iconst (-1), 1) := dk_2 (dk_at dksX2_count_3 14 rfl rfl)
theorem dX2_count_77 : decode cX2_count 77 = .ok (.ireturn, 1) := dk_172 (dk_at dksX2_count_3 15 rfl rfl)
abbrev cX2_sayingsInAll : ByteArray := prog_23_method_92_code
def yX2_sayingsInAll : MethodName := ⟨RX2, "sayingsInAll", "()I"⟩
def dkwX2_sayingsInAll_1 : List UInt8 := [132, 2, 1, 167, 255, 234, 27, 172]
abbrev dktX2_sayingsInAll_1 : List UInt8 := dkwX2_sayingsInAll_1 ++ []
def dkwX2_sayingsInAll_0 : List UInt8 := [3, 60, 3, 61, 28, 42, 180, 0, 7, 3, 46, 162, 0, 18, 27, 42, 180, 0, 19, 28, 46, 96, 60]
abbrev dktX2_sayingsInAll_0 : List UInt8 := dkwX2_sayingsInAll_0 ++ dktX2_sayingsInAll_1
theorem dksX2_sayingsInAll_0 : cX2_sayingsInAll.data.toList.drop 0 = dktX2_sayingsInAll_0 := by decide +kernel
theorem dksX2_sayingsInAll_1 : cX2_sayingsInAll.data.toList.drop 23 = dktX2_sayingsInAll_1 := dk_seg dksX2_sayingsInAll_0 23 rfl rfl
theorem dX2_sayingsInAll_0 : decode cX2_sayingsInAll 0 = .ok (.iconst 0, 1) := dk_3 (dk_at dksX2_sayingsInAll_0 0 rfl rfl)
theorem dX2_sayingsInAll_1 : decode cX2_sayingsInAll 1 = .ok (.istore_n 1, 1) := dk_60 (dk_at dksX2_sayingsInAll_0 1 rfl rfl)
theorem dX2_sayingsInAll_2 : decode cX2_sayingsInAll 2 = .ok (.iconst 0, 1) := dk_3 (dk_at dksX2_sayingsInAll_0 2 rfl rfl)
theorem dX2_sayingsInAll_3 : decode cX2_sayingsInAll 3 = .ok (.istore_n 2, 1) := dk_61 (dk_at dksX2_sayingsInAll_0 3 rfl rfl)
theorem dX2_sayingsInAll_4 : decode cX2_sayingsInAll 4 = .ok (.iload_n 2, 1) := dk_28 (dk_at dksX2_sayingsInAll_0 4 rfl rfl)
theorem dX2_sayingsInAll_5 : decode cX2_sayingsInAll 5 = .ok (.aload_n 0, 1) := dk_42 (dk_at dksX2_sayingsInAll_0 5 rfl rfl)
theorem dX2_sayingsInAll_6 : decode cX2_sayingsInAll 6 = .ok (.getfield 7, 3) := dk_180 0 7 (dk_at dksX2_sayingsInAll_0 6 rfl rfl)
theorem dX2_sayingsInAll_9 : decode cX2_sayingsInAll 9 = .ok (.iconst 0, 1) := dk_3 (dk_at dksX2_sayingsInAll_0 9 rfl rfl)
theorem dX2_sayingsInAll_10 : decode cX2_sayingsInAll 10 = .ok (.iaload, 1) := dk_46 (dk_at dksX2_sayingsInAll_0 10 rfl rfl)
theorem dX2_sayingsInAll_11 : decode cX2_sayingsInAll 11 = .ok (.if_icmp .ge 18, 3) := dk_162 0 18 (dk_at dksX2_sayingsInAll_0 11 rfl rfl)
theorem dX2_sayingsInAll_14 : decode cX2_sayingsInAll 14 = .ok (.iload_n 1, 1) := dk_27 (dk_at dksX2_sayingsInAll_0 14 rfl rfl)
theorem dX2_sayingsInAll_15 : decode cX2_sayingsInAll 15 = .ok (.aload_n 0, 1) := dk_42 (dk_at dksX2_sayingsInAll_0 15 rfl rfl)
theorem dX2_sayingsInAll_16 : decode cX2_sayingsInAll 16 = .ok (.getfield 19, 3) := dk_180 0 19 (dk_at dksX2_sayingsInAll_0 16 rfl rfl)
theorem dX2_sayingsInAll_19 : decode cX2_sayingsInAll 19 = .ok (.iload_n 2, 1) := dk_28 (dk_at dksX2_sayingsInAll_0 19 rfl rfl)
theorem dX2_sayingsInAll_20 : decode cX2_sayingsInAll 20 = .ok (.iaload, 1) := dk_46 (dk_at dksX2_sayingsInAll_0 20 rfl rfl)
theorem dX2_sayingsInAll_21 : decode cX2_sayingsInAll 21 = .ok (.iadd, 1) := dk_96 (dk_at dksX2_sayingsInAll_0 21 rfl rfl)
theorem dX2_sayingsInAll_22 : decode cX2_sayingsInAll 22 = .ok (.istore_n 1, 1) := dk_60 (dk_at dksX2_sayingsInAll_0 22 rfl rfl)
theorem dX2_sayingsInAll_23 : decode cX2_sayingsInAll 23 = .ok (.iinc 2 1, 3) := dk_132 2 1 (dk_at dksX2_sayingsInAll_1 0 rfl rfl)
theorem dX2_sayingsInAll_26 : decode cX2_sayingsInAll 26 = .ok (.goto (-22), 3) := dk_167 255 234 (dk_at dksX2_sayingsInAll_1 3 rfl rfl)
theorem dX2_sayingsInAll_29 : decode cX2_sayingsInAll 29 = .ok (.iload_n 1, 1) := dk_27 (dk_at dksX2_sayingsInAll_1 6 rfl rfl)
theorem dX2_sayingsInAll_30 : decode cX2_sayingsInAll 30 = .ok (.ireturn, 1) := dk_172 (dk_at dksX2_sayingsInAll_1 7 rfl rfl)
theorem q97 : (Jvm.Cond.initialized "CrossingWordsModel") ∈ lw_all := lw_g (lw_at lw_m1 3 rfl) rfl
theorem q1335 : (Jvm.Cond.instantiable "CrossingWordsModel" (63 : Nat)) ∈ lw_all := lw_g (lw_at lw_m6 41 rfl) rfl
theorem q1337 : (Jvm.Cond.instanceMethod ({ cls := "CrossingWordsModel", name := "<init>", desc := "()V" } : Jvm.MethodName)) ∈ lw_all := lw_g (lw_at lw_m6 43 rfl) rfl
theorem q1338 : (Jvm.Cond.code ({ cls := "CrossingWordsModel", name := "<init>", desc := "()V" } : Jvm.MethodName) prog_23_method_1_code (1 : Nat) (Option.none : Option Jvm.ClassFile.FieldType)) ∈ lw_all := lw_g (lw_at lw_m6 44 rfl) rfl
theorem q1339 : (Jvm.Cond.methodLink "CrossingWordsModel" (1 : Nat) ({ cls := "java/lang/Object", name := "<init>", desc := "()V" } : Jvm.MethodName)) ∈ lw_all := lw_g (lw_at lw_m6 45 rfl) rfl
theorem q1340 : (Jvm.Cond.fieldLink "CrossingWordsModel" (7 : Nat) "CrossingWordsModel" "cases" "[I") ∈ lw_all := lw_g (lw_at lw_m6 46 rfl) rfl
theorem q1341 : (Jvm.Cond.fieldLink "CrossingWordsModel" (13 : Nat) "CrossingWordsModel" "laws" "[I") ∈ lw_all := lw_g (lw_at lw_m6 47 rfl) rfl
theorem q1342 : (Jvm.Cond.fieldLink "CrossingWordsModel" (16 : Nat) "CrossingWordsModel" "clauses" "[I") ∈ lw_all := lw_g (lw_at lw_m6 48 rfl) rfl
theorem q1343 : (Jvm.Cond.fieldLink "CrossingWordsModel" (19 : Nat) "CrossingWordsModel" "many" "[I") ∈ lw_all := lw_g (lw_at lw_m6 49 rfl) rfl
theorem q1344 : (Jvm.Cond.fieldLink "CrossingWordsModel" (22 : Nat) "CrossingWordsModel" "what" "[I") ∈ lw_all := lw_g (lw_at lw_m6 50 rfl) rfl
theorem q1345 : (Jvm.Cond.fieldLink "CrossingWordsModel" (25 : Nat) "CrossingWordsModel" "hand" "[I") ∈ lw_all := lw_g (lw_at lw_m6 51 rfl) rfl
theorem q1346 : (Jvm.Cond.fieldLink "CrossingWordsModel" (28 : Nat) "CrossingWordsModel" "whom" "[I") ∈ lw_all := lw_g (lw_at lw_m6 52 rfl) rfl
theorem q1347 : (Jvm.Cond.fieldLink "CrossingWordsModel" (31 : Nat) "CrossingWordsModel" "said" "[I") ∈ lw_all := lw_g (lw_at lw_m6 53 rfl) rfl
theorem q1348 : (Jvm.Cond.fieldLink "CrossingWordsModel" (34 : Nat) "CrossingWordsModel" "way" "[I") ∈ lw_all := lw_g (lw_at lw_m6 54 rfl) rfl
theorem q1349 : (Jvm.Cond.fieldLink "CrossingWordsModel" (37 : Nat) "CrossingWordsModel" "hold" "[I") ∈ lw_all := lw_g (lw_at lw_m6 55 rfl) rfl
theorem q1350 : (Jvm.Cond.fieldLink "CrossingWordsModel" (40 : Nat) "CrossingWordsModel" "given" "[I") ∈ lw_all := lw_g (lw_at lw_m6 56 rfl) rfl
theorem q1351 : (Jvm.Cond.fieldLink "CrossingWordsModel" (43 : Nat) "CrossingWordsModel" "loss" "[I") ∈ lw_all := lw_g (lw_at lw_m6 57 rfl) rfl
theorem q1352 : (Jvm.Cond.fieldLink "CrossingWordsModel" (46 : Nat) "CrossingWordsModel" "word" "[I") ∈ lw_all := lw_g (lw_at lw_m6 58 rfl) rfl
theorem q1353 : (Jvm.Cond.fieldLink "CrossingWordsModel" (49 : Nat) "CrossingWordsModel" "low" "[I") ∈ lw_all := lw_g (lw_at lw_m6 59 rfl) rfl
theorem q1354 : (Jvm.Cond.fieldLink "CrossingWordsModel" (52 : Nat) "CrossingWordsModel" "high" "[I") ∈ lw_all := lw_g (lw_at lw_m6 60 rfl) rfl
theorem q1355 : (Jvm.Cond.fieldLink "CrossingWordsModel" (55 : Nat) "CrossingWordsModel" "rule" "[I") ∈ lw_all := lw_g (lw_at lw_m6 61 rfl) rfl
theorem q1356 : (Jvm.Cond.fieldLink "CrossingWordsModel" (58 : Nat) "CrossingWordsModel" "tape" "[B") ∈ lw_all := lw_g (lw_at lw_m6 62 rfl) rfl
theorem q1357 : (Jvm.Cond.fieldLink "CrossingWordsModel" (148 : Nat) "CrossingWordsModel" "taped" "I") ∈ lw_all := lw_g (lw_at lw_m6 63 rfl) rfl
theorem q1358 : (Jvm.Cond.fieldLink "CrossingWordsModel" (62 : Nat) "CrossingWordsModel" "faultAt" "I") ∈ lw_all := lw_g (lw_at lw_m6 64 rfl) rfl
theorem q1359 : (Jvm.Cond.fieldLink "CrossingWordsModel" (154 : Nat) "CrossingWordsModel" "limit" "I") ∈ lw_all := lw_g (lw_at lw_m6 65 rfl) rfl
theorem q1360 : (Jvm.Cond.fieldLink "CrossingWordsModel" (151 : Nat) "CrossingWordsModel" "point" "I") ∈ lw_all := lw_g (lw_at lw_m6 66 rfl) rfl
theorem q1361 : (Jvm.Cond.fieldLink "CrossingWordsModel" (161 : Nat) "CrossingWordsModel" "from" "I") ∈ lw_all := lw_g (lw_at lw_m6 67 rfl) rfl
theorem q1362 : (Jvm.Cond.fieldLink "CrossingWordsModel" (173 : Nat) "CrossingWordsModel" "token" "I") ∈ lw_all := lw_g (lw_at lw_m6 68 rfl) rfl
theorem q1363 : (Jvm.Cond.fieldLink "CrossingWordsModel" (170 : Nat) "CrossingWordsModel" "value" "I") ∈ lw_all := lw_g (lw_at lw_m6 69 rfl) rfl
theorem q1364 : (Jvm.Cond.fieldLink "CrossingWordsModel" (166 : Nat) "CrossingWordsModel" "text" "J") ∈ lw_all := lw_g (lw_at lw_m6 70 rfl) rfl
theorem q1365 : (Jvm.Cond.fieldLink "CrossingWordsModel" (183 : Nat) "CrossingWordsModel" "isWrong" "Z") ∈ lw_all := lw_g (lw_at lw_m6 71 rfl) rfl
theorem q1366 : (Jvm.Cond.fieldLink "CrossingWordsModel" (66 : Nat) "CrossingWordsModel" "rules" "[I") ∈ lw_all := lw_g (lw_at lw_m6 72 rfl) rfl
theorem q1367 : (Jvm.Cond.fieldLink "CrossingWordsModel" (351 : Nat) "CrossingWordsModel" "n" "I") ∈ lw_all := lw_g (lw_at lw_m6 73 rfl) rfl
theorem q1368 : (Jvm.Cond.fieldLink "CrossingWordsModel" (354 : Nat) "CrossingWordsModel" "asked0" "I") ∈ lw_all := lw_g (lw_at lw_m6 74 rfl) rfl
theorem q1369 : (Jvm.Cond.fieldLink "CrossingWordsModel" (357 : Nat) "CrossingWordsModel" "combos" "I") ∈ lw_all := lw_g (lw_at lw_m6 75 rfl) rfl
theorem q1370 : (Jvm.Cond.fieldLink "CrossingWordsModel" (69 : Nat) "CrossingWordsModel" "wWhat" "[I") ∈ lw_all := lw_g (lw_at lw_m6 76 rfl) rfl
theorem q1371 : (Jvm.Cond.fieldLink "CrossingWordsModel" (72 : Nat) "CrossingWordsModel" "wWay" "[I") ∈ lw_all := lw_g (lw_at lw_m6 77 rfl) rfl
theorem q1372 : (Jvm.Cond.fieldLink "CrossingWordsModel" (75 : Nat) "CrossingWordsModel" "wLoss" "[I") ∈ lw_all := lw_g (lw_at lw_m6 78 rfl) rfl
theorem q1373 : (Jvm.Cond.fieldLink "CrossingWordsModel" (78 : Nat) "CrossingWordsModel" "wHold" "[I") ∈ lw_all := lw_g (lw_at lw_m6 79 rfl) rfl
theorem q1374 : (Jvm.Cond.fieldLink "CrossingWordsModel" (81 : Nat) "CrossingWordsModel" "wSaid" "[I") ∈ lw_all := lw_g (lw_at lw_m6 80 rfl) rfl
theorem q1375 : (Jvm.Cond.fieldLink "CrossingWordsModel" (84 : Nat) "CrossingWordsModel" "wHand" "[I") ∈ lw_all := lw_g (lw_at lw_m6 81 rfl) rfl
theorem q1376 : (Jvm.Cond.fieldLink "CrossingWordsModel" (87 : Nat) "CrossingWordsModel" "wWhom" "[I") ∈ lw_all := lw_g (lw_at lw_m6 82 rfl) rfl
theorem q1377 : (Jvm.Cond.fieldLink "CrossingWordsModel" (90 : Nat) "CrossingWordsModel" "isBarred" "[Z") ∈ lw_all := lw_g (lw_at lw_m6 83 rfl) rfl
theorem q1378 : (Jvm.Cond.fieldLink "CrossingWordsModel" (94 : Nat) "CrossingWordsModel" "wWord" "[I") ∈ lw_all := lw_g (lw_at lw_m6 84 rfl) rfl
theorem q1379 : (Jvm.Cond.fieldLink "CrossingWordsModel" (97 : Nat) "CrossingWordsModel" "wLow" "[I") ∈ lw_all := lw_g (lw_at lw_m6 85 rfl) rfl
theorem q1380 : (Jvm.Cond.fieldLink "CrossingWordsModel" (100 : Nat) "CrossingWordsModel" "wHigh" "[I") ∈ lw_all := lw_g (lw_at lw_m6 86 rfl) rfl
theorem q1381 : (Jvm.Cond.fieldLink "CrossingWordsModel" (103 : Nat) "CrossingWordsModel" "askedOf" "[I") ∈ lw_all := lw_g (lw_at lw_m6 87 rfl) rfl
theorem q1382 : (Jvm.Cond.fieldLink "CrossingWordsModel" (106 : Nat) "CrossingWordsModel" "radix" "[I") ∈ lw_all := lw_g (lw_at lw_m6 88 rfl) rfl
theorem q1383 : (Jvm.Cond.fieldLink "CrossingWordsModel" (109 : Nat) "CrossingWordsModel" "sent" "[I") ∈ lw_all := lw_g (lw_at lw_m6 89 rfl) rfl
theorem q1384 : (Jvm.Cond.fieldLink "CrossingWordsModel" (112 : Nat) "CrossingWordsModel" "comes" "[I") ∈ lw_all := lw_g (lw_at lw_m6 90 rfl) rfl
theorem q1385 : (Jvm.Cond.fieldLink "CrossingWordsModel" (115 : Nat) "CrossingWordsModel" "isRead" "[I") ∈ lw_all := lw_g (lw_at lw_m6 91 rfl) rfl
theorem q1386 : (Jvm.Cond.fieldLink "CrossingWordsModel" (118 : Nat) "CrossingWordsModel" "pick" "[I") ∈ lw_all := lw_g (lw_at lw_m6 92 rfl) rfl
theorem q1387 : (Jvm.Cond.fieldLink "CrossingWordsModel" (121 : Nat) "CrossingWordsModel" "opens" "[I") ∈ lw_all := lw_g (lw_at lw_m6 93 rfl) rfl
theorem q1388 : (Jvm.Cond.fieldLink "CrossingWordsModel" (124 : Nat) "CrossingWordsModel" "endsAt" "[I") ∈ lw_all := lw_g (lw_at lw_m6 94 rfl) rfl
theorem q1389 : (Jvm.Cond.fieldLink "CrossingWordsModel" (127 : Nat) "CrossingWordsModel" "why" "[I") ∈ lw_all := lw_g (lw_at lw_m6 95 rfl) rfl
theorem q1390 : (Jvm.Cond.fieldLink "CrossingWordsModel" (381 : Nat) "CrossingWordsModel" "has" "Z") ∈ lw_all := lw_g (lw_at lw_m6 96 rfl) rfl
theorem q1391 : (Jvm.Cond.fieldLink "CrossingWordsModel" (387 : Nat) "CrossingWordsModel" "byYes" "I") ∈ lw_all := lw_g (lw_at lw_m6 97 rfl) rfl
theorem q1392 : (Jvm.Cond.fieldLink "CrossingWordsModel" (390 : Nat) "CrossingWordsModel" "byOffer" "I") ∈ lw_all := lw_g (lw_at lw_m6 98 rfl) rfl
theorem q1393 : (Jvm.Cond.fieldLink "CrossingWordsModel" (384 : Nat) "CrossingWordsModel" "atHour" "I") ∈ lw_all := lw_g (lw_at lw_m6 99 rfl) rfl
theorem q1394 : (Jvm.Cond.fieldLink "CrossingWordsModel" (130 : Nat) "CrossingWordsModel" "isSure" "[Z") ∈ lw_all := lw_g (lw_at lw_m6 100 rfl) rfl
theorem q1395 : (Jvm.Cond.fieldLink "CrossingWordsModel" (133 : Nat) "CrossingWordsModel" "isNeeded" "[Z") ∈ lw_all := lw_g (lw_at lw_m6 101 rfl) rfl
theorem q1396 : (Jvm.Cond.fieldLink "CrossingWordsModel" (136 : Nat) "CrossingWordsModel" "hasBy" "[Z") ∈ lw_all := lw_g (lw_at lw_m6 102 rfl) rfl
theorem q1397 : (Jvm.Cond.fieldLink "CrossingWordsModel" (139 : Nat) "CrossingWordsModel" "met" "[I") ∈ lw_all := lw_g (lw_at lw_m6 103 rfl) rfl
theorem q1398 : (Jvm.Cond.fieldLink "CrossingWordsModel" (142 : Nat) "CrossingWordsModel" "firstYes" "[I") ∈ lw_all := lw_g (lw_at lw_m6 104 rfl) rfl
theorem q1399 : (Jvm.Cond.fieldLink "CrossingWordsModel" (145 : Nat) "CrossingWordsModel" "firstWords" "[I") ∈ lw_all := lw_g (lw_at lw_m6 105 rfl) rfl
theorem q1400 : (Jvm.Cond.fieldLink "CrossingWordsModel" (461 : Nat) "CrossingWordsModel" "apartCount" "I") ∈ lw_all := lw_g (lw_at lw_m6 106 rfl) rfl
theorem q1401 : (Jvm.Cond.fieldLink "CrossingWordsModel" (464 : Nat) "CrossingWordsModel" "apartFirst" "I") ∈ lw_all := lw_g (lw_at lw_m6 107 rfl) rfl
theorem q1402 : (Jvm.Cond.fieldLink "CrossingWordsModel" (482 : Nat) "CrossingWordsModel" "images" "I") ∈ lw_all := lw_g (lw_at lw_m6 108 rfl) rfl
theorem q1403 : (Jvm.Cond.laysFinal "CrossingWordsModel" "CrossingWordsModel" "cases" "[I") ∈ lw_all := lw_g (lw_at lw_m6 109 rfl) rfl
theorem q1404 : (Jvm.Cond.soleField "CrossingWordsModel" "cases") ∈ lw_all := lw_g (lw_at lw_m6 110 rfl) rfl
theorem q1405 : (Jvm.Cond.laysFinal "CrossingWordsModel" "CrossingWordsModel" "laws" "[I") ∈ lw_all := lw_g (lw_at lw_m6 111 rfl) rfl
theorem q1406 : (Jvm.Cond.soleField "CrossingWordsModel" "laws") ∈ lw_all := lw_g (lw_at lw_m6 112 rfl) rfl
theorem q1407 : (Jvm.Cond.laysFinal "CrossingWordsModel" "CrossingWordsModel" "clauses" "[I") ∈ lw_all := lw_g (lw_at lw_m6 113 rfl) rfl
theorem q1408 : (Jvm.Cond.soleField "CrossingWordsModel" "clauses") ∈ lw_all := lw_g (lw_at lw_m6 114 rfl) rfl
theorem q1409 : (Jvm.Cond.laysFinal "CrossingWordsModel" "CrossingWordsModel" "many" "[I") ∈ lw_all := lw_g (lw_at lw_m6 115 rfl) rfl
theorem q1410 : (Jvm.Cond.soleField "CrossingWordsModel" "many") ∈ lw_all := lw_g (lw_at lw_m6 116 rfl) rfl
theorem q1411 : (Jvm.Cond.laysFinal "CrossingWordsModel" "CrossingWordsModel" "what" "[I") ∈ lw_all := lw_g (lw_at lw_m6 117 rfl) rfl
theorem q1412 : (Jvm.Cond.soleField "CrossingWordsModel" "what") ∈ lw_all := lw_g (lw_at lw_m6 118 rfl) rfl
theorem q1413 : (Jvm.Cond.laysFinal "CrossingWordsModel" "CrossingWordsModel" "hand" "[I") ∈ lw_all := lw_g (lw_at lw_m6 119 rfl) rfl
theorem q1414 : (Jvm.Cond.soleField "CrossingWordsModel" "hand") ∈ lw_all := lw_g (lw_at lw_m6 120 rfl) rfl
theorem q1415 : (Jvm.Cond.laysFinal "CrossingWordsModel" "CrossingWordsModel" "whom" "[I") ∈ lw_all := lw_g (lw_at lw_m6 121 rfl) rfl
theorem q1416 : (Jvm.Cond.soleField "CrossingWordsModel" "whom") ∈ lw_all := lw_g (lw_at lw_m6 122 rfl) rfl
theorem q1417 : (Jvm.Cond.laysFinal "CrossingWordsModel" "CrossingWordsModel" "said" "[I") ∈ lw_all := lw_g (lw_at lw_m6 123 rfl) rfl
theorem q1418 : (Jvm.Cond.soleField "CrossingWordsModel" "said") ∈ lw_all := lw_g (lw_at lw_m6 124 rfl) rfl
theorem q1419 : (Jvm.Cond.laysFinal "CrossingWordsModel" "CrossingWordsModel" "way" "[I") ∈ lw_all := lw_g (lw_at lw_m6 125 rfl) rfl
theorem q1420 : (Jvm.Cond.soleField "CrossingWordsModel" "way") ∈ lw_all := lw_g (lw_at lw_m6 126 rfl) rfl
theorem q1421 : (Jvm.Cond.laysFinal "CrossingWordsModel" "CrossingWordsModel" "hold" "[I") ∈ lw_all := lw_g (lw_at lw_m6 127 rfl) rfl
theorem q1422 : (Jvm.Cond.soleField "CrossingWordsModel" "hold") ∈ lw_all := lw_g (lw_at lw_m6 128 rfl) rfl
theorem q1423 : (Jvm.Cond.laysFinal "CrossingWordsModel" "CrossingWordsModel" "given" "[I") ∈ lw_all := lw_g (lw_at lw_m6 129 rfl) rfl
theorem q1424 : (Jvm.Cond.soleField "CrossingWordsModel" "given") ∈ lw_all := lw_g (lw_at lw_m6 130 rfl) rfl
theorem q1425 : (Jvm.Cond.laysFinal "CrossingWordsModel" "CrossingWordsModel" "loss" "[I") ∈ lw_all := lw_g (lw_at lw_m6 131 rfl) rfl
theorem q1426 : (Jvm.Cond.soleField "CrossingWordsModel" "loss") ∈ lw_all := lw_g (lw_at lw_m6 132 rfl) rfl
theorem q1427 : (Jvm.Cond.laysFinal "CrossingWordsModel" "CrossingWordsModel" "word" "[I") ∈ lw_all := lw_g (lw_at lw_m6 133 rfl) rfl
theorem q1428 : (Jvm.Cond.soleField "CrossingWordsModel" "word") ∈ lw_all := lw_g (lw_at lw_m6 134 rfl) rfl
theorem q1429 : (Jvm.Cond.laysFinal "CrossingWordsModel" "CrossingWordsModel" "low" "[I") ∈ lw_all := lw_g (lw_at lw_m6 135 rfl) rfl
theorem q1430 : (Jvm.Cond.soleField "CrossingWordsModel" "low") ∈ lw_all := lw_g (lw_at lw_m6 136 rfl) rfl
theorem q1431 : (Jvm.Cond.laysFinal "CrossingWordsModel" "CrossingWordsModel" "high" "[I") ∈ lw_all := lw_g (lw_at lw_m6 137 rfl) rfl
theorem q1432 : (Jvm.Cond.soleField "CrossingWordsModel" "high") ∈ lw_all := lw_g (lw_at lw_m6 138 rfl) rfl
theorem q1433 : (Jvm.Cond.laysFinal "CrossingWordsModel" "CrossingWordsModel" "rule" "[I") ∈ lw_all := lw_g (lw_at lw_m6 139 rfl) rfl
theorem q1434 : (Jvm.Cond.soleField "CrossingWordsModel" "rule") ∈ lw_all := lw_g (lw_at lw_m6 140 rfl) rfl
theorem q1435 : (Jvm.Cond.laysFinal "CrossingWordsModel" "CrossingWordsModel" "tape" "[B") ∈ lw_all := lw_g (lw_at lw_m6 141 rfl) rfl
theorem q1436 : (Jvm.Cond.soleField "CrossingWordsModel" "tape") ∈ lw_all := lw_g (lw_at lw_m6 142 rfl) rfl
theorem q1437 : (Jvm.Cond.lays "CrossingWordsModel" "CrossingWordsModel" "taped" "I") ∈ lw_all := lw_g (lw_at lw_m6 143 rfl) rfl
theorem q1438 : (Jvm.Cond.soleField "CrossingWordsModel" "taped") ∈ lw_all := lw_g (lw_at lw_m6 144 rfl) rfl
theorem q1439 : (Jvm.Cond.lays "CrossingWordsModel" "CrossingWordsModel" "faultAt" "I") ∈ lw_all := lw_g (lw_at lw_m6 145 rfl) rfl
theorem q1440 : (Jvm.Cond.soleField "CrossingWordsModel" "faultAt") ∈ lw_all := lw_g (lw_at lw_m6 146 rfl) rfl
theorem q1441 : (Jvm.Cond.lays "CrossingWordsModel" "CrossingWordsModel" "limit" "I") ∈ lw_all := lw_g (lw_at lw_m6 147 rfl) rfl
theorem q1442 : (Jvm.Cond.soleField "CrossingWordsModel" "limit") ∈ lw_all := lw_g (lw_at lw_m6 148 rfl) rfl
theorem q1443 : (Jvm.Cond.lays "CrossingWordsModel" "CrossingWordsModel" "point" "I") ∈ lw_all := lw_g (lw_at lw_m6 149 rfl) rfl
theorem q1444 : (Jvm.Cond.soleField "CrossingWordsModel" "point") ∈ lw_all := lw_g (lw_at lw_m6 150 rfl) rfl
theorem q1445 : (Jvm.Cond.lays "CrossingWordsModel" "CrossingWordsModel" "from" "I") ∈ lw_all := lw_g (lw_at lw_m6 151 rfl) rfl
theorem q1446 : (Jvm.Cond.soleField "CrossingWordsModel" "from") ∈ lw_all := lw_g (lw_at lw_m6 152 rfl) rfl
theorem q1447 : (Jvm.Cond.lays "CrossingWordsModel" "CrossingWordsModel" "token" "I") ∈ lw_all := lw_g (lw_at lw_m6 153 rfl) rfl
theorem q1448 : (Jvm.Cond.soleField "CrossingWordsModel" "token") ∈ lw_all := lw_g (lw_at lw_m6 154 rfl) rfl
theorem q1449 : (Jvm.Cond.lays "CrossingWordsModel" "CrossingWordsModel" "value" "I") ∈ lw_all := lw_g (lw_at lw_m6 155 rfl) rfl
theorem q1450 : (Jvm.Cond.soleField "CrossingWordsModel" "value") ∈ lw_all := lw_g (lw_at lw_m6 156 rfl) rfl
theorem q1451 : (Jvm.Cond.lays "CrossingWordsModel" "CrossingWordsModel" "text" "J") ∈ lw_all := lw_g (lw_at lw_m6 157 rfl) rfl
theorem q1452 : (Jvm.Cond.soleField "CrossingWordsModel" "text") ∈ lw_all := lw_g (lw_at lw_m6 158 rfl) rfl
theorem q1453 : (Jvm.Cond.lays "CrossingWordsModel" "CrossingWordsModel" "isWrong" "Z") ∈ lw_all := lw_g (lw_at lw_m6 159 rfl) rfl
theorem q1454 : (Jvm.Cond.soleField "CrossingWordsModel" "isWrong") ∈ lw_all := lw_g (lw_at lw_m6 160 rfl) rfl
theorem q1455 : (Jvm.Cond.laysFinal "CrossingWordsModel" "CrossingWordsModel" "rules" "[I") ∈ lw_all := lw_g (lw_at lw_m6 161 rfl) rfl
theorem q1456 : (Jvm.Cond.soleField "CrossingWordsModel" "rules") ∈ lw_all := lw_g (lw_at lw_m6 162 rfl) rfl
theorem q1457 : (Jvm.Cond.lays "CrossingWordsModel" "CrossingWordsModel" "n" "I") ∈ lw_all := lw_g (lw_at lw_m6 163 rfl) rfl
theorem q1458 : (Jvm.Cond.soleField "CrossingWordsModel" "n") ∈ lw_all := lw_g (lw_at lw_m6 164 rfl) rfl
theorem q1459 : (Jvm.Cond.lays "CrossingWordsModel" "CrossingWordsModel" "asked0" "I") ∈ lw_all := lw_g (lw_at lw_m6 165 rfl) rfl
theorem q1460 : (Jvm.Cond.soleField "CrossingWordsModel" "asked0") ∈ lw_all := lw_g (lw_at lw_m6 166 rfl) rfl
theorem q1461 : (Jvm.Cond.lays "CrossingWordsModel" "CrossingWordsModel" "combos" "I") ∈ lw_all := lw_g (lw_at lw_m6 167 rfl) rfl
theorem q1462 : (Jvm.Cond.soleField "CrossingWordsModel" "combos") ∈ lw_all := lw_g (lw_at lw_m6 168 rfl) rfl
theorem q1463 : (Jvm.Cond.laysFinal "CrossingWordsModel" "CrossingWordsModel" "wWhat" "[I") ∈ lw_all := lw_g (lw_at lw_m6 169 rfl) rfl
theorem q1464 : (Jvm.Cond.soleField "CrossingWordsModel" "wWhat") ∈ lw_all := lw_g (lw_at lw_m6 170 rfl) rfl
theorem q1465 : (Jvm.Cond.laysFinal "CrossingWordsModel" "CrossingWordsModel" "wWay" "[I") ∈ lw_all := lw_g (lw_at lw_m6 171 rfl) rfl
theorem q1466 : (Jvm.Cond.soleField "CrossingWordsModel" "wWay") ∈ lw_all := lw_g (lw_at lw_m6 172 rfl) rfl
theorem q1467 : (Jvm.Cond.laysFinal "CrossingWordsModel" "CrossingWordsModel" "wLoss" "[I") ∈ lw_all := lw_g (lw_at lw_m6 173 rfl) rfl
theorem q1468 : (Jvm.Cond.soleField "CrossingWordsModel" "wLoss") ∈ lw_all := lw_g (lw_at lw_m6 174 rfl) rfl
theorem q1469 : (Jvm.Cond.laysFinal "CrossingWordsModel" "CrossingWordsModel" "wHold" "[I") ∈ lw_all := lw_g (lw_at lw_m6 175 rfl) rfl
theorem q1470 : (Jvm.Cond.soleField "CrossingWordsModel" "wHold") ∈ lw_all := lw_g (lw_at lw_m6 176 rfl) rfl
theorem q1471 : (Jvm.Cond.laysFinal "CrossingWordsModel" "CrossingWordsModel" "wSaid" "[I") ∈ lw_all := lw_g (lw_at lw_m6 177 rfl) rfl
theorem q1472 : (Jvm.Cond.soleField "CrossingWordsModel" "wSaid") ∈ lw_all := lw_g (lw_at lw_m6 178 rfl) rfl
theorem q1473 : (Jvm.Cond.laysFinal "CrossingWordsModel" "CrossingWordsModel" "wHand" "[I") ∈ lw_all := lw_g (lw_at lw_m6 179 rfl) rfl
theorem q1474 : (Jvm.Cond.soleField "CrossingWordsModel" "wHand") ∈ lw_all := lw_g (lw_at lw_m6 180 rfl) rfl
theorem q1475 : (Jvm.Cond.laysFinal "CrossingWordsModel" "CrossingWordsModel" "wWhom" "[I") ∈ lw_all := lw_g (lw_at lw_m6 181 rfl) rfl
theorem q1476 : (Jvm.Cond.soleField "CrossingWordsModel" "wWhom") ∈ lw_all := lw_g (lw_at lw_m6 182 rfl) rfl
theorem q1477 : (Jvm.Cond.laysFinal "CrossingWordsModel" "CrossingWordsModel" "isBarred" "[Z") ∈ lw_all := lw_g (lw_at lw_m6 183 rfl) rfl
theorem q1478 : (Jvm.Cond.soleField "CrossingWordsModel" "isBarred") ∈ lw_all := lw_g (lw_at lw_m6 184 rfl) rfl
theorem q1479 : (Jvm.Cond.laysFinal "CrossingWordsModel" "CrossingWordsModel" "wWord" "[I") ∈ lw_all := lw_g (lw_at lw_m6 185 rfl) rfl
theorem q1480 : (Jvm.Cond.soleField "CrossingWordsModel" "wWord") ∈ lw_all := lw_g (lw_at lw_m6 186 rfl) rfl
theorem q1481 : (Jvm.Cond.laysFinal "CrossingWordsModel" "CrossingWordsModel" "wLow" "[I") ∈ lw_all := lw_g (lw_at lw_m6 187 rfl) rfl
theorem q1482 : (Jvm.Cond.soleField "CrossingWordsModel" "wLow") ∈ lw_all := lw_g (lw_at lw_m6 188 rfl) rfl
theorem q1483 : (Jvm.Cond.laysFinal "CrossingWordsModel" "CrossingWordsModel" "wHigh" "[I") ∈ lw_all := lw_g (lw_at lw_m6 189 rfl) rfl
theorem q1484 : (Jvm.Cond.soleField "CrossingWordsModel" "wHigh") ∈ lw_all := lw_g (lw_at lw_m6 190 rfl) rfl
theorem q1485 : (Jvm.Cond.laysFinal "CrossingWordsModel" "CrossingWordsModel" "askedOf" "[I") ∈ lw_all := lw_g (lw_at lw_m6 191 rfl) rfl
theorem q1486 : (Jvm.Cond.soleField "CrossingWordsModel" "askedOf") ∈ lw_all := lw_g (lw_at lw_m6 192 rfl) rfl
theorem q1487 : (Jvm.Cond.laysFinal "CrossingWordsModel" "CrossingWordsModel" "radix" "[I") ∈ lw_all := lw_g (lw_at lw_m6 193 rfl) rfl
theorem q1488 : (Jvm.Cond.soleField "CrossingWordsModel" "radix") ∈ lw_all := lw_g (lw_at lw_m6 194 rfl) rfl
theorem q1489 : (Jvm.Cond.laysFinal "CrossingWordsModel" "CrossingWordsModel" "sent" "[I") ∈ lw_all := lw_g (lw_at lw_m6 195 rfl) rfl
theorem q1490 : (Jvm.Cond.soleField "CrossingWordsModel" "sent") ∈ lw_all := lw_g (lw_at lw_m6 196 rfl) rfl
theorem q1491 : (Jvm.Cond.laysFinal "CrossingWordsModel" "CrossingWordsModel" "comes" "[I") ∈ lw_all := lw_g (lw_at lw_m6 197 rfl) rfl
theorem q1492 : (Jvm.Cond.soleField "CrossingWordsModel" "comes") ∈ lw_all := lw_g (lw_at lw_m6 198 rfl) rfl
theorem q1493 : (Jvm.Cond.laysFinal "CrossingWordsModel" "CrossingWordsModel" "isRead" "[I") ∈ lw_all := lw_g (lw_at lw_m6 199 rfl) rfl
theorem q1494 : (Jvm.Cond.soleField "CrossingWordsModel" "isRead") ∈ lw_all := lw_g (lw_at lw_m6 200 rfl) rfl
theorem q1495 : (Jvm.Cond.laysFinal "CrossingWordsModel" "CrossingWordsModel" "pick" "[I") ∈ lw_all := lw_g (lw_at lw_m6 201 rfl) rfl
theorem q1496 : (Jvm.Cond.soleField "CrossingWordsModel" "pick") ∈ lw_all := lw_g (lw_at lw_m6 202 rfl) rfl
theorem q1497 : (Jvm.Cond.laysFinal "CrossingWordsModel" "CrossingWordsModel" "opens" "[I") ∈ lw_all := lw_g (lw_at lw_m6 203 rfl) rfl
theorem q1498 : (Jvm.Cond.soleField "CrossingWordsModel" "opens") ∈ lw_all := lw_g (lw_at lw_m6 204 rfl) rfl
theorem q1499 : (Jvm.Cond.laysFinal "CrossingWordsModel" "CrossingWordsModel" "endsAt" "[I") ∈ lw_all := lw_g (lw_at lw_m6 205 rfl) rfl
theorem q1500 : (Jvm.Cond.soleField "CrossingWordsModel" "endsAt") ∈ lw_all := lw_g (lw_at lw_m6 206 rfl) rfl
theorem q1501 : (Jvm.Cond.laysFinal "CrossingWordsModel" "CrossingWordsModel" "why" "[I") ∈ lw_all := lw_g (lw_at lw_m6 207 rfl) rfl
theorem q1502 : (Jvm.Cond.soleField "CrossingWordsModel" "why") ∈ lw_all := lw_g (lw_at lw_m6 208 rfl) rfl
theorem q1503 : (Jvm.Cond.lays "CrossingWordsModel" "CrossingWordsModel" "has" "Z") ∈ lw_all := lw_g (lw_at lw_m6 209 rfl) rfl
theorem q1504 : (Jvm.Cond.soleField "CrossingWordsModel" "has") ∈ lw_all := lw_g (lw_at lw_m6 210 rfl) rfl
theorem q1505 : (Jvm.Cond.lays "CrossingWordsModel" "CrossingWordsModel" "byYes" "I") ∈ lw_all := lw_g (lw_at lw_m6 211 rfl) rfl
theorem q1506 : (Jvm.Cond.soleField "CrossingWordsModel" "byYes") ∈ lw_all := lw_g (lw_at lw_m6 212 rfl) rfl
theorem q1507 : (Jvm.Cond.lays "CrossingWordsModel" "CrossingWordsModel" "byOffer" "I") ∈ lw_all := lw_g (lw_at lw_m6 213 rfl) rfl
theorem q1508 : (Jvm.Cond.soleField "CrossingWordsModel" "byOffer") ∈ lw_all := lw_g (lw_at lw_m6 214 rfl) rfl
theorem q1509 : (Jvm.Cond.lays "CrossingWordsModel" "CrossingWordsModel" "atHour" "I") ∈ lw_all := lw_g (lw_at lw_m6 215 rfl) rfl
theorem q1510 : (Jvm.Cond.soleField "CrossingWordsModel" "atHour") ∈ lw_all := lw_g (lw_at lw_m6 216 rfl) rfl
theorem q1511 : (Jvm.Cond.laysFinal "CrossingWordsModel" "CrossingWordsModel" "isSure" "[Z") ∈ lw_all := lw_g (lw_at lw_m6 217 rfl) rfl
theorem q1512 : (Jvm.Cond.soleField "CrossingWordsModel" "isSure") ∈ lw_all := lw_g (lw_at lw_m6 218 rfl) rfl
theorem q1513 : (Jvm.Cond.laysFinal "CrossingWordsModel" "CrossingWordsModel" "isNeeded" "[Z") ∈ lw_all := lw_g (lw_at lw_m6 219 rfl) rfl
theorem q1514 : (Jvm.Cond.soleField "CrossingWordsModel" "isNeeded") ∈ lw_all := lw_g (lw_at lw_m6 220 rfl) rfl
theorem q1515 : (Jvm.Cond.laysFinal "CrossingWordsModel" "CrossingWordsModel" "hasBy" "[Z") ∈ lw_all := lw_g (lw_at lw_m6 221 rfl) rfl
theorem q1516 : (Jvm.Cond.soleField "CrossingWordsModel" "hasBy") ∈ lw_all := lw_g (lw_at lw_m6 222 rfl) rfl
theorem q1517 : (Jvm.Cond.laysFinal "CrossingWordsModel" "CrossingWordsModel" "met" "[I") ∈ lw_all := lw_g (lw_at lw_m6 223 rfl) rfl
theorem q1518 : (Jvm.Cond.soleField "CrossingWordsModel" "met") ∈ lw_all := lw_g (lw_at lw_m6 224 rfl) rfl
theorem q1519 : (Jvm.Cond.laysFinal "CrossingWordsModel" "CrossingWordsModel" "firstYes" "[I") ∈ lw_all := lw_g (lw_at lw_m6 225 rfl) rfl
theorem q1520 : (Jvm.Cond.soleField "CrossingWordsModel" "firstYes") ∈ lw_all := lw_g (lw_at lw_m6 226 rfl) rfl
theorem q1521 : (Jvm.Cond.laysFinal "CrossingWordsModel" "CrossingWordsModel" "firstWords" "[I") ∈ lw_all := lw_g (lw_at lw_m6 227 rfl) rfl
theorem q1522 : (Jvm.Cond.soleField "CrossingWordsModel" "firstWords") ∈ lw_all := lw_g (lw_at lw_m6 228 rfl) rfl
theorem q1523 : (Jvm.Cond.lays "CrossingWordsModel" "CrossingWordsModel" "apartCount" "I") ∈ lw_all := lw_g (lw_at lw_m6 229 rfl) rfl
theorem q1524 : (Jvm.Cond.soleField "CrossingWordsModel" "apartCount") ∈ lw_all := lw_g (lw_at lw_m6 230 rfl) rfl
theorem q1525 : (Jvm.Cond.lays "CrossingWordsModel" "CrossingWordsModel" "apartFirst" "I") ∈ lw_all := lw_g (lw_at lw_m6 231 rfl) rfl
theorem q1526 : (Jvm.Cond.soleField "CrossingWordsModel" "apartFirst") ∈ lw_all := lw_g (lw_at lw_m6 232 rfl) rfl
theorem q1527 : (Jvm.Cond.lays "CrossingWordsModel" "CrossingWordsModel" "images" "I") ∈ lw_all := lw_g (lw_at lw_m6 233 rfl) rfl
theorem q1528 : (Jvm.Cond.soleField "CrossingWordsModel" "images") ∈ lw_all := lw_g (lw_at lw_m6 234 rfl) rfl
theorem q1529 : (Jvm.Cond.superclass "CrossingWordsModel" "java/lang/Object") ∈ lw_all := lw_g (lw_at lw_m6 235 rfl) rfl
theorem q1531 : (Jvm.Cond.instanceMethod ({ cls := "CrossingWordsModel", name := "feed", desc := "(IIIII)I" } : Jvm.MethodName)) ∈ lw_all := lw_g (lw_at lw_m6 237 rfl) rfl
theorem q1532 : (Jvm.Cond.selects "CrossingWordsModel" ({ cls := "CrossingWordsModel", name := "feed", desc := "(IIIII)I" } : Jvm.MethodName) ({ cls := "CrossingWordsModel", name := "feed", desc := "(IIIII)I" } : Jvm.MethodName)) ∈ lw_all := lw_g (lw_at lw_m6 238 rfl) rfl
theorem q1533 : (Jvm.Cond.code ({ cls := "CrossingWordsModel", name := "feed", desc := "(IIIII)I" } : Jvm.MethodName) prog_23_method_4_code (8 : Nat) (Option.some Jvm.ClassFile.FieldType.int)) ∈ lw_all := lw_g (lw_at lw_m6 239 rfl) rfl
theorem q1535 : (Jvm.Cond.instanceMethod ({ cls := "CrossingWordsModel", name := "tell", desc := "(I)I" } : Jvm.MethodName)) ∈ lw_all := lw_g (lw_at lw_m7 1 rfl) rfl
theorem q1536 : (Jvm.Cond.selects "CrossingWordsModel" ({ cls := "CrossingWordsModel", name := "tell", desc := "(I)I" } : Jvm.MethodName) ({ cls := "CrossingWordsModel", name := "tell", desc := "(I)I" } : Jvm.MethodName)) ∈ lw_all := lw_g (lw_at lw_m7 2 rfl) rfl
theorem q1537 : (Jvm.Cond.code ({ cls := "CrossingWordsModel", name := "tell", desc := "(I)I" } : Jvm.MethodName) prog_23_method_24_code (3 : Nat) (Option.some Jvm.ClassFile.FieldType.int)) ∈ lw_all := lw_g (lw_at lw_m7 3 rfl) rfl
theorem q1538 : (Jvm.Cond.methodLink "CrossingWordsModel" (293 : Nat) ({ cls := "CrossingWordsModel", name := "begins", desc := "(I)V" } : Jvm.MethodName)) ∈ lw_all := lw_g (lw_at lw_m7 4 rfl) rfl
theorem q1539 : (Jvm.Cond.privateMethod ({ cls := "CrossingWordsModel", name := "begins", desc := "(I)V" } : Jvm.MethodName)) ∈ lw_tbl := lw_at lw_m7 5 rfl
theorem q1540 : (Jvm.Cond.instanceMethod ({ cls := "CrossingWordsModel", name := "begins", desc := "(I)V" } : Jvm.MethodName)) ∈ lw_all := lw_g (lw_at lw_m7 6 rfl) rfl
theorem q1541 : (Jvm.Cond.code ({ cls := "CrossingWordsModel", name := "begins", desc := "(I)V" } : Jvm.MethodName) prog_23_method_12_code (2 : Nat) (Option.none : Option Jvm.ClassFile.FieldType)) ∈ lw_all := lw_g (lw_at lw_m7 7 rfl) rfl
theorem q1542 : (Jvm.Cond.methodLink "CrossingWordsModel" (191 : Nat) ({ cls := "CrossingWordsModel", name := "next", desc := "()V" } : Jvm.MethodName)) ∈ lw_all := lw_g (lw_at lw_m7 8 rfl) rfl
theorem q1543 : (Jvm.Cond.privateMethod ({ cls := "CrossingWordsModel", name := "next", desc := "()V" } : Jvm.MethodName)) ∈ lw_tbl := lw_at lw_m7 9 rfl
theorem q1544 : (Jvm.Cond.instanceMethod ({ cls := "CrossingWordsModel", name := "next", desc := "()V" } : Jvm.MethodName)) ∈ lw_all := lw_g (lw_at lw_m7 10 rfl) rfl
theorem q1545 : (Jvm.Cond.code ({ cls := "CrossingWordsModel", name := "next", desc := "()V" } : Jvm.MethodName) prog_23_method_6_code (2 : Nat) (Option.none : Option Jvm.ClassFile.FieldType)) ∈ lw_all := lw_g (lw_at lw_m7 11 rfl) rfl
theorem q1546 : (Jvm.Cond.methodLink "CrossingWordsModel" (157 : Nat) ({ cls := "CrossingWordsModel", name := "here", desc := "()I" } : Jvm.MethodName)) ∈ lw_all := lw_g (lw_at lw_m7 12 rfl) rfl
theorem q1547 : (Jvm.Cond.privateMethod ({ cls := "CrossingWordsModel", name := "here", desc := "()I" } : Jvm.MethodName)) ∈ lw_tbl := lw_at lw_m7 13 rfl
theorem q1548 : (Jvm.Cond.instanceMethod ({ cls := "CrossingWordsModel", name := "here", desc := "()I" } : Jvm.MethodName)) ∈ lw_all := lw_g (lw_at lw_m7 14 rfl) rfl
theorem q1549 : (Jvm.Cond.code ({ cls := "CrossingWordsModel", name := "here", desc := "()I" } : Jvm.MethodName) prog_23_method_5_code (1 : Nat) (Option.some Jvm.ClassFile.FieldType.int)) ∈ lw_all := lw_g (lw_at lw_m7 15 rfl) rfl
theorem q1550 : (Jvm.Cond.constantLong "CrossingWordsModel" (164 : Nat) (-1 : Int64)) ∈ lw_all := lw_g (lw_at lw_m7 16 rfl) rfl
theorem q1551 : (Jvm.Cond.methodLink "CrossingWordsModel" (176 : Nat) ({ cls := "CrossingWordsModel", name := "within", desc := "(III)Z" } : Jvm.MethodName)) ∈ lw_all := lw_g (lw_at lw_m7 17 rfl) rfl
theorem q1552 : (Jvm.Cond.static ({ cls := "CrossingWordsModel", name := "within", desc := "(III)Z" } : Jvm.MethodName)) ∈ lw_all := lw_g (lw_at lw_m7 18 rfl) rfl
theorem q1553 : (Jvm.Cond.code ({ cls := "CrossingWordsModel", name := "within", desc := "(III)Z" } : Jvm.MethodName) prog_23_method_3_code (3 : Nat) (Option.some Jvm.ClassFile.FieldType.boolean)) ∈ lw_all := lw_g (lw_at lw_m7 19 rfl) rfl
theorem q1554 : (Jvm.Cond.constantLong "CrossingWordsModel" (180 : Nat) (27 : Int64)) ∈ lw_all := lw_g (lw_at lw_m7 20 rfl) rfl
theorem q1555 : (Jvm.Cond.constant "CrossingWordsModel" (182 : Nat) (1000000 : Int32)) ∈ lw_all := lw_g (lw_at lw_m7 21 rfl) rfl
theorem q1556 : (Jvm.Cond.methodLink "CrossingWordsModel" (296 : Nat) ({ cls := "CrossingWordsModel", name := "readSayings", desc := "(II)I" } : Jvm.MethodName)) ∈ lw_all := lw_g (lw_at lw_m7 22 rfl) rfl
theorem q1557 : (Jvm.Cond.privateMethod ({ cls := "CrossingWordsModel", name := "readSayings", desc := "(II)I" } : Jvm.MethodName)) ∈ lw_tbl := lw_at lw_m7 23 rfl
theorem q1558 : (Jvm.Cond.instanceMethod ({ cls := "CrossingWordsModel", name := "readSayings", desc := "(II)I" } : Jvm.MethodName)) ∈ lw_all := lw_g (lw_at lw_m7 24 rfl) rfl
theorem q1559 : (Jvm.Cond.code ({ cls := "CrossingWordsModel", name := "readSayings", desc := "(II)I" } : Jvm.MethodName) prog_23_method_23_code (4 : Nat) (Option.some Jvm.ClassFile.FieldType.int)) ∈ lw_all := lw_g (lw_at lw_m7 25 rfl) rfl
theorem q1560 : (Jvm.Cond.methodLink "CrossingWordsModel" (194 : Nat) ({ cls := "CrossingWordsModel", name := "errs", desc := "()V" } : Jvm.MethodName)) ∈ lw_all := lw_g (lw_at lw_m7 26 rfl) rfl
theorem q1561 : (Jvm.Cond.privateMethod ({ cls := "CrossingWordsModel", name := "errs", desc := "()V" } : Jvm.MethodName)) ∈ lw_tbl := lw_at lw_m7 27 rfl
theorem q1562 : (Jvm.Cond.instanceMethod ({ cls := "CrossingWordsModel", name := "errs", desc := "()V" } : Jvm.MethodName)) ∈ lw_all := lw_g (lw_at lw_m7 28 rfl) rfl
theorem q1563 : (Jvm.Cond.code ({ cls := "CrossingWordsModel", name := "errs", desc := "()V" } : Jvm.MethodName) prog_23_method_7_code (1 : Nat) (Option.none : Option Jvm.ClassFile.FieldType)) ∈ lw_all := lw_g (lw_at lw_m7 29 rfl) rfl
theorem q1564 : (Jvm.Cond.methodLink "CrossingWordsModel" (289 : Nat) ({ cls := "CrossingWordsModel", name := "readSaying", desc := "(II)V" } : Jvm.MethodName)) ∈ lw_all := lw_g (lw_at lw_m7 30 rfl) rfl
theorem q1565 : (Jvm.Cond.privateMethod ({ cls := "CrossingWordsModel", name := "readSaying", desc := "(II)V" } : Jvm.MethodName)) ∈ lw_tbl := lw_at lw_m7 31 rfl
theorem q1566 : (Jvm.Cond.instanceMethod ({ cls := "CrossingWordsModel", name := "readSaying", desc := "(II)V" } : Jvm.MethodName)) ∈ lw_all := lw_g (lw_at lw_m7 32 rfl) rfl
theorem q1567 : (Jvm.Cond.code ({ cls := "CrossingWordsModel", name := "readSaying", desc := "(II)V" } : Jvm.MethodName) prog_23_method_22_code (6 : Nat) (Option.none : Option Jvm.ClassFile.FieldType)) ∈ lw_all := lw_g (lw_at lw_m7 33 rfl) rfl
theorem q1568 : (Jvm.Cond.methodLink "CrossingWordsModel" (261 : Nat) ({ cls := "CrossingWordsModel", name := "whatHere", desc := "()I" } : Jvm.MethodName)) ∈ lw_all := lw_g (lw_at lw_m7 34 rfl) rfl
theorem q1569 : (Jvm.Cond.privateMethod ({ cls := "CrossingWordsModel", name := "whatHere", desc := "()I" } : Jvm.MethodName)) ∈ lw_tbl := lw_at lw_m7 35 rfl
theorem q1570 : (Jvm.Cond.instanceMethod ({ cls := "CrossingWordsModel", name := "whatHere", desc := "()I" } : Jvm.MethodName)) ∈ lw_all := lw_g (lw_at lw_m7 36 rfl) rfl
theorem q1571 : (Jvm.Cond.code ({ cls := "CrossingWordsModel", name := "whatHere", desc := "()I" } : Jvm.MethodName) prog_23_method_15_code (1 : Nat) (Option.some Jvm.ClassFile.FieldType.int)) ∈ lw_all := lw_g (lw_at lw_m7 37 rfl) rfl
theorem q1572 : (Jvm.Cond.constantLong "CrossingWordsModel" (209 : Nat) (8094240 : Int64)) ∈ lw_all := lw_g (lw_at lw_m7 38 rfl) rfl
theorem q1573 : (Jvm.Cond.constantLong "CrossingWordsModel" (211 : Nat) (1253 : Int64)) ∈ lw_all := lw_g (lw_at lw_m7 39 rfl) rfl
theorem q1574 : (Jvm.Cond.constantLong "CrossingWordsModel" (213 : Nat) (18379 : Int64)) ∈ lw_all := lw_g (lw_at lw_m7 40 rfl) rfl
theorem q1575 : (Jvm.Cond.constantLong "CrossingWordsModel" (215 : Nat) (393 : Int64)) ∈ lw_all := lw_g (lw_at lw_m7 41 rfl) rfl
theorem q1576 : (Jvm.Cond.constantLong "CrossingWordsModel" (217 : Nat) (40187 : Int64)) ∈ lw_all := lw_g (lw_at lw_m7 42 rfl) rfl
theorem q1577 : (Jvm.Cond.constantLong "CrossingWordsModel" (219 : Nat) (82516 : Int64)) ∈ lw_all := lw_g (lw_at lw_m7 43 rfl) rfl
theorem q1578 : (Jvm.Cond.constantLong "CrossingWordsModel" (221 : Nat) (378004 : Int64)) ∈ lw_all := lw_g (lw_at lw_m7 44 rfl) rfl
theorem q1579 : (Jvm.Cond.methodLink "CrossingWordsModel" (264 : Nat) ({ cls := "CrossingWordsModel", name := "handHere", desc := "(I)I" } : Jvm.MethodName)) ∈ lw_all := lw_g (lw_at lw_m7 45 rfl) rfl
theorem q1580 : (Jvm.Cond.privateMethod ({ cls := "CrossingWordsModel", name := "handHere", desc := "(I)I" } : Jvm.MethodName)) ∈ lw_tbl := lw_at lw_m7 46 rfl
theorem q1581 : (Jvm.Cond.instanceMethod ({ cls := "CrossingWordsModel", name := "handHere", desc := "(I)I" } : Jvm.MethodName)) ∈ lw_all := lw_g (lw_at lw_m7 47 rfl) rfl
theorem q1582 : (Jvm.Cond.code ({ cls := "CrossingWordsModel", name := "handHere", desc := "(I)I" } : Jvm.MethodName) prog_23_method_13_code (3 : Nat) (Option.some Jvm.ClassFile.FieldType.int)) ∈ lw_all := lw_g (lw_at lw_m7 48 rfl) rfl
theorem q1583 : (Jvm.Cond.constantLong "CrossingWordsModel" (197 : Nat) (3 : Int64)) ∈ lw_all := lw_g (lw_at lw_m7 49 rfl) rfl
theorem q1584 : (Jvm.Cond.methodLink "CrossingWordsModel" (268 : Nat) ({ cls := "CrossingWordsModel", name := "saidHere", desc := "(IIII)I" } : Jvm.MethodName)) ∈ lw_all := lw_g (lw_at lw_m7 50 rfl) rfl
theorem q1585 : (Jvm.Cond.privateMethod ({ cls := "CrossingWordsModel", name := "saidHere", desc := "(IIII)I" } : Jvm.MethodName)) ∈ lw_tbl := lw_at lw_m7 51 rfl
theorem q1586 : (Jvm.Cond.instanceMethod ({ cls := "CrossingWordsModel", name := "saidHere", desc := "(IIII)I" } : Jvm.MethodName)) ∈ lw_all := lw_g (lw_at lw_m7 52 rfl) rfl
theorem q1587 : (Jvm.Cond.code ({ cls := "CrossingWordsModel", name := "saidHere", desc := "(IIII)I" } : Jvm.MethodName) prog_23_method_21_code (8 : Nat) (Option.some Jvm.ClassFile.FieldType.int)) ∈ lw_all := lw_g (lw_at lw_m7 53 rfl) rfl
theorem q1588 : (Jvm.Cond.methodLink "CrossingWordsModel" (257 : Nat) ({ cls := "CrossingWordsModel", name := "isOffer", desc := "(I)Z" } : Jvm.MethodName)) ∈ lw_all := lw_g (lw_at lw_m7 54 rfl) rfl
theorem q1589 : (Jvm.Cond.privateMethod ({ cls := "CrossingWordsModel", name := "isOffer", desc := "(I)Z" } : Jvm.MethodName)) ∈ lw_tbl := lw_at lw_m7 55 rfl
theorem q1590 : (Jvm.Cond.instanceMethod ({ cls := "CrossingWordsModel", name := "isOffer", desc := "(I)Z" } : Jvm.MethodName)) ∈ lw_all := lw_g (lw_at lw_m7 56 rfl) rfl
theorem q1591 : (Jvm.Cond.code ({ cls := "CrossingWordsModel", name := "isOffer", desc := "(I)Z" } : Jvm.MethodName) prog_23_method_20_code (2 : Nat) (Option.some Jvm.ClassFile.FieldType.boolean)) ∈ lw_all := lw_g (lw_at lw_m7 57 rfl) rfl
theorem q1592 : (Jvm.Cond.methodLink "CrossingWordsModel" (272 : Nat) ({ cls := "CrossingWordsModel", name := "words", desc := "(IZ)V" } : Jvm.MethodName)) ∈ lw_all := lw_g (lw_at lw_m7 58 rfl) rfl
theorem q1593 : (Jvm.Cond.privateMethod ({ cls := "CrossingWordsModel", name := "words", desc := "(IZ)V" } : Jvm.MethodName)) ∈ lw_tbl := lw_at lw_m7 59 rfl
theorem q1594 : (Jvm.Cond.instanceMethod ({ cls := "CrossingWordsModel", name := "words", desc := "(IZ)V" } : Jvm.MethodName)) ∈ lw_all := lw_g (lw_at lw_m7 60 rfl) rfl
theorem q1595 : (Jvm.Cond.code ({ cls := "CrossingWordsModel", name := "words", desc := "(IZ)V" } : Jvm.MethodName) prog_23_method_17_code (4 : Nat) (Option.none : Option Jvm.ClassFile.FieldType)) ∈ lw_all := lw_g (lw_at lw_m7 61 rfl) rfl
theorem q1596 : (Jvm.Cond.methodLink "CrossingWordsModel" (229 : Nat) ({ cls := "CrossingWordsModel", name := "wordHere", desc := "()I" } : Jvm.MethodName)) ∈ lw_all := lw_g (lw_at lw_m7 62 rfl) rfl
theorem q1597 : (Jvm.Cond.privateMethod ({ cls := "CrossingWordsModel", name := "wordHere", desc := "()I" } : Jvm.MethodName)) ∈ lw_tbl := lw_at lw_m7 63 rfl
theorem q1598 : (Jvm.Cond.instanceMethod ({ cls := "CrossingWordsModel", name := "wordHere", desc := "()I" } : Jvm.MethodName)) ∈ lw_all := lw_g (lw_at lw_m7 64 rfl) rfl
theorem q1599 : (Jvm.Cond.code ({ cls := "CrossingWordsModel", name := "wordHere", desc := "()I" } : Jvm.MethodName) prog_23_method_14_code (1 : Nat) (Option.some Jvm.ClassFile.FieldType.int)) ∈ lw_all := lw_g (lw_at lw_m7 65 rfl) rfl
theorem q1600 : (Jvm.Cond.constantLong "CrossingWordsModel" (199 : Nat) (8863997 : Int64)) ∈ lw_all := lw_g (lw_at lw_m7 66 rfl) rfl
theorem q1601 : (Jvm.Cond.constantLong "CrossingWordsModel" (201 : Nat) (271277 : Int64)) ∈ lw_all := lw_g (lw_at lw_m7 67 rfl) rfl
theorem q1602 : (Jvm.Cond.constantLong "CrossingWordsModel" (203 : Nat) (2968 : Int64)) ∈ lw_all := lw_g (lw_at lw_m7 68 rfl) rfl
theorem q1603 : (Jvm.Cond.constantLong "CrossingWordsModel" (205 : Nat) (326369 : Int64)) ∈ lw_all := lw_g (lw_at lw_m7 69 rfl) rfl
theorem q1604 : (Jvm.Cond.constantLong "CrossingWordsModel" (207 : Nat) (1905383 : Int64)) ∈ lw_all := lw_g (lw_at lw_m7 70 rfl) rfl
theorem q1605 : (Jvm.Cond.methodLink "CrossingWordsModel" (232 : Nat) ({ cls := "CrossingWordsModel", name := "numeral", desc := "(II)I" } : Jvm.MethodName)) ∈ lw_all := lw_g (lw_at lw_m7 71 rfl) rfl
theorem q1606 : (Jvm.Cond.privateMethod ({ cls := "CrossingWordsModel", name := "numeral", desc := "(II)I" } : Jvm.MethodName)) ∈ lw_tbl := lw_at lw_m7 72 rfl
theorem q1607 : (Jvm.Cond.instanceMethod ({ cls := "CrossingWordsModel", name := "numeral", desc := "(II)I" } : Jvm.MethodName)) ∈ lw_all := lw_g (lw_at lw_m7 73 rfl) rfl
theorem q1608 : (Jvm.Cond.code ({ cls := "CrossingWordsModel", name := "numeral", desc := "(II)I" } : Jvm.MethodName) prog_23_method_10_code (4 : Nat) (Option.some Jvm.ClassFile.FieldType.int)) ∈ lw_all := lw_g (lw_at lw_m7 74 rfl) rfl
theorem q1609 : (Jvm.Cond.constantLong "CrossingWordsModel" (276 : Nat) (168727 : Int64)) ∈ lw_all := lw_g (lw_at lw_m7 75 rfl) rfl
theorem q1610 : (Jvm.Cond.methodLink "CrossingWordsModel" (187 : Nat) ({ cls := "CrossingWordsModel", name := "is", desc := "(J)Z" } : Jvm.MethodName)) ∈ lw_all := lw_g (lw_at lw_m7 76 rfl) rfl
theorem q1611 : (Jvm.Cond.privateMethod ({ cls := "CrossingWordsModel", name := "is", desc := "(J)Z" } : Jvm.MethodName)) ∈ lw_tbl := lw_at lw_m7 77 rfl
theorem q1612 : (Jvm.Cond.instanceMethod ({ cls := "CrossingWordsModel", name := "is", desc := "(J)Z" } : Jvm.MethodName)) ∈ lw_all := lw_g (lw_at lw_m7 78 rfl) rfl
theorem q1613 : (Jvm.Cond.code ({ cls := "CrossingWordsModel", name := "is", desc := "(J)Z" } : Jvm.MethodName) prog_23_method_8_code (3 : Nat) (Option.some Jvm.ClassFile.FieldType.boolean)) ∈ lw_all := lw_g (lw_at lw_m7 79 rfl) rfl
theorem q1614 : (Jvm.Cond.constantLong "CrossingWordsModel" (278 : Nat) (3913421 : Int64)) ∈ lw_all := lw_g (lw_at lw_m7 80 rfl) rfl
theorem q1615 : (Jvm.Cond.constantLong "CrossingWordsModel" (280 : Nat) (2045 : Int64)) ∈ lw_all := lw_g (lw_at lw_m7 81 rfl) rfl
theorem q1616 : (Jvm.Cond.methodLink "CrossingWordsModel" (282 : Nat) ({ cls := "CrossingWordsModel", name := "times", desc := "(I)V" } : Jvm.MethodName)) ∈ lw_all := lw_g (lw_at lw_m7 82 rfl) rfl
theorem q1617 : (Jvm.Cond.privateMethod ({ cls := "CrossingWordsModel", name := "times", desc := "(I)V" } : Jvm.MethodName)) ∈ lw_tbl := lw_at lw_m7 83 rfl
theorem q1618 : (Jvm.Cond.instanceMethod ({ cls := "CrossingWordsModel", name := "times", desc := "(I)V" } : Jvm.MethodName)) ∈ lw_all := lw_g (lw_at lw_m7 84 rfl) rfl
theorem q1619 : (Jvm.Cond.code ({ cls := "CrossingWordsModel", name := "times", desc := "(I)V" } : Jvm.MethodName) prog_23_method_19_code (3 : Nat) (Option.none : Option Jvm.ClassFile.FieldType)) ∈ lw_all := lw_g (lw_at lw_m7 85 rfl) rfl
theorem q1620 : (Jvm.Cond.methodLink "CrossingWordsModel" (238 : Nat) ({ cls := "CrossingWordsModel", name := "wayHere", desc := "()I" } : Jvm.MethodName)) ∈ lw_all := lw_g (lw_at lw_m7 86 rfl) rfl
theorem q1621 : (Jvm.Cond.privateMethod ({ cls := "CrossingWordsModel", name := "wayHere", desc := "()I" } : Jvm.MethodName)) ∈ lw_tbl := lw_at lw_m7 87 rfl
theorem q1622 : (Jvm.Cond.instanceMethod ({ cls := "CrossingWordsModel", name := "wayHere", desc := "()I" } : Jvm.MethodName)) ∈ lw_all := lw_g (lw_at lw_m7 88 rfl) rfl
theorem q1623 : (Jvm.Cond.code ({ cls := "CrossingWordsModel", name := "wayHere", desc := "()I" } : Jvm.MethodName) prog_23_method_16_code (1 : Nat) (Option.some Jvm.ClassFile.FieldType.int)) ∈ lw_all := lw_g (lw_at lw_m7 89 rfl) rfl
theorem q1624 : (Jvm.Cond.constantLong "CrossingWordsModel" (223 : Nat) (326396 : Int64)) ∈ lw_all := lw_g (lw_at lw_m7 90 rfl) rfl
theorem q1625 : (Jvm.Cond.constantLong "CrossingWordsModel" (225 : Nat) (459761 : Int64)) ∈ lw_all := lw_g (lw_at lw_m7 91 rfl) rfl
theorem q1626 : (Jvm.Cond.constantLong "CrossingWordsModel" (227 : Nat) (7219835 : Int64)) ∈ lw_all := lw_g (lw_at lw_m7 92 rfl) rfl
theorem q1627 : (Jvm.Cond.constantLong "CrossingWordsModel" (241 : Nat) (47 : Int64)) ∈ lw_all := lw_g (lw_at lw_m7 93 rfl) rfl
theorem q1628 : (Jvm.Cond.methodLink "CrossingWordsModel" (243 : Nat) ({ cls := "CrossingWordsModel", name := "mustBe", desc := "(J)V" } : Jvm.MethodName)) ∈ lw_all := lw_g (lw_at lw_m7 94 rfl) rfl
theorem q1629 : (Jvm.Cond.privateMethod ({ cls := "CrossingWordsModel", name := "mustBe", desc := "(J)V" } : Jvm.MethodName)) ∈ lw_tbl := lw_at lw_m7 95 rfl
theorem q1630 : (Jvm.Cond.instanceMethod ({ cls := "CrossingWordsModel", name := "mustBe", desc := "(J)V" } : Jvm.MethodName)) ∈ lw_all := lw_g (lw_at lw_m7 96 rfl) rfl
theorem q1631 : (Jvm.Cond.code ({ cls := "CrossingWordsModel", name := "mustBe", desc := "(J)V" } : Jvm.MethodName) prog_23_method_9_code (3 : Nat) (Option.none : Option Jvm.ClassFile.FieldType)) ∈ lw_all := lw_g (lw_at lw_m7 97 rfl) rfl
theorem q1632 : (Jvm.Cond.methodLink "CrossingWordsModel" (247 : Nat) ({ cls := "CrossingWordsModel", name := "span", desc := "(III)V" } : Jvm.MethodName)) ∈ lw_all := lw_g (lw_at lw_m7 98 rfl) rfl
theorem q1633 : (Jvm.Cond.privateMethod ({ cls := "CrossingWordsModel", name := "span", desc := "(III)V" } : Jvm.MethodName)) ∈ lw_tbl := lw_at lw_m7 99 rfl
theorem q1634 : (Jvm.Cond.instanceMethod ({ cls := "CrossingWordsModel", name := "span", desc := "(III)V" } : Jvm.MethodName)) ∈ lw_all := lw_g (lw_at lw_m7 100 rfl) rfl
theorem q1635 : (Jvm.Cond.code ({ cls := "CrossingWordsModel", name := "span", desc := "(III)V" } : Jvm.MethodName) prog_23_method_18_code (5 : Nat) (Option.none : Option Jvm.ClassFile.FieldType)) ∈ lw_all := lw_g (lw_at lw_m7 101 rfl) rfl
theorem q1636 : (Jvm.Cond.constantLong "CrossingWordsModel" (236 : Nat) (555 : Int64)) ∈ lw_all := lw_g (lw_at lw_m7 102 rfl) rfl
theorem q1637 : (Jvm.Cond.constantLong "CrossingWordsModel" (251 : Nat) (664272 : Int64)) ∈ lw_all := lw_g (lw_at lw_m7 103 rfl) rfl
theorem q1638 : (Jvm.Cond.constantLong "CrossingWordsModel" (253 : Nat) (357970 : Int64)) ∈ lw_all := lw_g (lw_at lw_m7 104 rfl) rfl
theorem q1639 : (Jvm.Cond.constantLong "CrossingWordsModel" (255 : Nat) (247664 : Int64)) ∈ lw_all := lw_g (lw_at lw_m7 105 rfl) rfl
theorem q1640 : (Jvm.Cond.methodLink "CrossingWordsModel" (286 : Nat) ({ cls := "CrossingWordsModel", name := "ends", desc := "()V" } : Jvm.MethodName)) ∈ lw_all := lw_g (lw_at lw_m7 106 rfl) rfl
theorem q1641 : (Jvm.Cond.privateMethod ({ cls := "CrossingWordsModel", name := "ends", desc := "()V" } : Jvm.MethodName)) ∈ lw_tbl := lw_at lw_m7 107 rfl
theorem q1642 : (Jvm.Cond.instanceMethod ({ cls := "CrossingWordsModel", name := "ends", desc := "()V" } : Jvm.MethodName)) ∈ lw_all := lw_g (lw_at lw_m7 108 rfl) rfl
theorem q1643 : (Jvm.Cond.code ({ cls := "CrossingWordsModel", name := "ends", desc := "()V" } : Jvm.MethodName) prog_23_method_11_code (1 : Nat) (Option.none : Option Jvm.ClassFile.FieldType)) ∈ lw_all := lw_g (lw_at lw_m7 109 rfl) rfl
theorem q1645 : (Jvm.Cond.instanceMethod ({ cls := "CrossingWordsModel", name := "more", desc := "(II)I" } : Jvm.MethodName)) ∈ lw_all := lw_g (lw_at lw_m7 111 rfl) rfl
theorem q1646 : (Jvm.Cond.selects "CrossingWordsModel" ({ cls := "CrossingWordsModel", name := "more", desc := "(II)I" } : Jvm.MethodName) ({ cls := "CrossingWordsModel", name := "more", desc := "(II)I" } : Jvm.MethodName)) ∈ lw_all := lw_g (lw_at lw_m7 112 rfl) rfl
theorem q1647 : (Jvm.Cond.code ({ cls := "CrossingWordsModel", name := "more", desc := "(II)I" } : Jvm.MethodName) prog_23_method_27_code (4 : Nat) (Option.some Jvm.ClassFile.FieldType.int)) ∈ lw_all := lw_g (lw_at lw_m7 113 rfl) rfl
theorem q1648 : (Jvm.Cond.methodLink "CrossingWordsModel" (299 : Nat) ({ cls := "CrossingWordsModel", name := "isCase", desc := "(I)Z" } : Jvm.MethodName)) ∈ lw_all := lw_g (lw_at lw_m7 114 rfl) rfl
theorem q1649 : (Jvm.Cond.privateMethod ({ cls := "CrossingWordsModel", name := "isCase", desc := "(I)Z" } : Jvm.MethodName)) ∈ lw_tbl := lw_at lw_m7 115 rfl
theorem q1650 : (Jvm.Cond.instanceMethod ({ cls := "CrossingWordsModel", name := "isCase", desc := "(I)Z" } : Jvm.MethodName)) ∈ lw_all := lw_g (lw_at lw_m7 116 rfl) rfl
theorem q1651 : (Jvm.Cond.code ({ cls := "CrossingWordsModel", name := "isCase", desc := "(I)Z" } : Jvm.MethodName) prog_23_method_25_code (2 : Nat) (Option.some Jvm.ClassFile.FieldType.boolean)) ∈ lw_all := lw_g (lw_at lw_m7 117 rfl) rfl
theorem q1653 : (Jvm.Cond.instanceMethod ({ cls := "CrossingWordsModel", name := "law", desc := "(I)I" } : Jvm.MethodName)) ∈ lw_all := lw_g (lw_at lw_m7 119 rfl) rfl
theorem q1654 : (Jvm.Cond.selects "CrossingWordsModel" ({ cls := "CrossingWordsModel", name := "law", desc := "(I)I" } : Jvm.MethodName) ({ cls := "CrossingWordsModel", name := "law", desc := "(I)I" } : Jvm.MethodName)) ∈ lw_all := lw_g (lw_at lw_m7 120 rfl) rfl
theorem q1655 : (Jvm.Cond.code ({ cls := "CrossingWordsModel", name := "law", desc := "(I)I" } : Jvm.MethodName) prog_23_method_32_code (2 : Nat) (Option.some Jvm.ClassFile.FieldType.int)) ∈ lw_all := lw_g (lw_at lw_m7 121 rfl) rfl
theorem q1656 : (Jvm.Cond.methodLink "CrossingWordsModel" (342 : Nat) ({ cls := "CrossingWordsModel", name := "readRules", desc := "(I)Z" } : Jvm.MethodName)) ∈ lw_all := lw_g (lw_at lw_m7 122 rfl) rfl
theorem q1657 : (Jvm.Cond.privateMethod ({ cls := "CrossingWordsModel", name := "readRules", desc := "(I)Z" } : Jvm.MethodName)) ∈ lw_tbl := lw_at lw_m7 123 rfl
theorem q1658 : (Jvm.Cond.instanceMethod ({ cls := "CrossingWordsModel", name := "readRules", desc := "(I)Z" } : Jvm.MethodName)) ∈ lw_all := lw_g (lw_at lw_m7 124 rfl) rfl
theorem q1659 : (Jvm.Cond.code ({ cls := "CrossingWordsModel", name := "readRules", desc := "(I)Z" } : Jvm.MethodName) prog_23_method_31_code (3 : Nat) (Option.some Jvm.ClassFile.FieldType.boolean)) ∈ lw_all := lw_g (lw_at lw_m7 125 rfl) rfl
theorem q1660 : (Jvm.Cond.methodLink "CrossingWordsModel" (339 : Nat) ({ cls := "CrossingWordsModel", name := "readRule", desc := "(I)V" } : Jvm.MethodName)) ∈ lw_all := lw_g (lw_at lw_m7 126 rfl) rfl
theorem q1661 : (Jvm.Cond.privateMethod ({ cls := "CrossingWordsModel", name := "readRule", desc := "(I)V" } : Jvm.MethodName)) ∈ lw_tbl := lw_at lw_m7 127 rfl
theorem q1662 : (Jvm.Cond.instanceMethod ({ cls := "CrossingWordsModel", name := "readRule", desc := "(I)V" } : Jvm.MethodName)) ∈ lw_all := lw_g (lw_at lw_m7 128 rfl) rfl
theorem q1663 : (Jvm.Cond.code ({ cls := "CrossingWordsModel", name := "readRule", desc := "(I)V" } : Jvm.MethodName) prog_23_method_30_code (5 : Nat) (Option.none : Option Jvm.ClassFile.FieldType)) ∈ lw_all := lw_g (lw_at lw_m7 129 rfl) rfl
theorem q1664 : (Jvm.Cond.constantLong "CrossingWordsModel" (306 : Nat) (1065 : Int64)) ∈ lw_all := lw_g (lw_at lw_m7 130 rfl) rfl
theorem q1665 : (Jvm.Cond.methodLink "CrossingWordsModel" (308 : Nat) ({ cls := "CrossingWordsModel", name := "one", desc := "(JJJ)I" } : Jvm.MethodName)) ∈ lw_all := lw_g (lw_at lw_m7 131 rfl) rfl
theorem q1666 : (Jvm.Cond.privateMethod ({ cls := "CrossingWordsModel", name := "one", desc := "(JJJ)I" } : Jvm.MethodName)) ∈ lw_tbl := lw_at lw_m7 132 rfl
theorem q1667 : (Jvm.Cond.instanceMethod ({ cls := "CrossingWordsModel", name := "one", desc := "(JJJ)I" } : Jvm.MethodName)) ∈ lw_all := lw_g (lw_at lw_m7 133 rfl) rfl
theorem q1668 : (Jvm.Cond.code ({ cls := "CrossingWordsModel", name := "one", desc := "(JJJ)I" } : Jvm.MethodName) prog_23_method_29_code (8 : Nat) (Option.some Jvm.ClassFile.FieldType.int)) ∈ lw_all := lw_g (lw_at lw_m7 134 rfl) rfl
theorem q1669 : (Jvm.Cond.methodLink "CrossingWordsModel" (312 : Nat) ({ cls := "CrossingWordsModel", name := "whenHere", desc := "()I" } : Jvm.MethodName)) ∈ lw_all := lw_g (lw_at lw_m7 135 rfl) rfl
theorem q1670 : (Jvm.Cond.privateMethod ({ cls := "CrossingWordsModel", name := "whenHere", desc := "()I" } : Jvm.MethodName)) ∈ lw_tbl := lw_at lw_m7 136 rfl
theorem q1671 : (Jvm.Cond.instanceMethod ({ cls := "CrossingWordsModel", name := "whenHere", desc := "()I" } : Jvm.MethodName)) ∈ lw_all := lw_g (lw_at lw_m7 137 rfl) rfl
theorem q1672 : (Jvm.Cond.code ({ cls := "CrossingWordsModel", name := "whenHere", desc := "()I" } : Jvm.MethodName) prog_23_method_28_code (2 : Nat) (Option.some Jvm.ClassFile.FieldType.int)) ∈ lw_all := lw_g (lw_at lw_m7 138 rfl) rfl
theorem q1673 : (Jvm.Cond.constantLong "CrossingWordsModel" (302 : Nat) (378020 : Int64)) ∈ lw_all := lw_g (lw_at lw_m7 139 rfl) rfl
theorem q1674 : (Jvm.Cond.constantLong "CrossingWordsModel" (304 : Nat) (70340 : Int64)) ∈ lw_all := lw_g (lw_at lw_m7 140 rfl) rfl
theorem q1675 : (Jvm.Cond.constantLong "CrossingWordsModel" (315 : Nat) (131360 : Int64)) ∈ lw_all := lw_g (lw_at lw_m7 141 rfl) rfl
theorem q1676 : (Jvm.Cond.constantLong "CrossingWordsModel" (317 : Nat) (1250362 : Int64)) ∈ lw_all := lw_g (lw_at lw_m7 142 rfl) rfl
theorem q1677 : (Jvm.Cond.constantLong "CrossingWordsModel" (319 : Nat) (-9 : Int64)) ∈ lw_all := lw_g (lw_at lw_m7 143 rfl) rfl
theorem q1678 : (Jvm.Cond.constantLong "CrossingWordsModel" (321 : Nat) (6409157 : Int64)) ∈ lw_all := lw_g (lw_at lw_m7 144 rfl) rfl
theorem q1679 : (Jvm.Cond.constantLong "CrossingWordsModel" (323 : Nat) (7496615453 : Int64)) ∈ lw_all := lw_g (lw_at lw_m7 145 rfl) rfl
theorem q1680 : (Jvm.Cond.constantLong "CrossingWordsModel" (325 : Nat) (10354323 : Int64)) ∈ lw_all := lw_g (lw_at lw_m7 146 rfl) rfl
theorem q1681 : (Jvm.Cond.constantLong "CrossingWordsModel" (327 : Nat) (129532 : Int64)) ∈ lw_all := lw_g (lw_at lw_m7 147 rfl) rfl
theorem q1682 : (Jvm.Cond.constantLong "CrossingWordsModel" (329 : Nat) (3379448 : Int64)) ∈ lw_all := lw_g (lw_at lw_m7 148 rfl) rfl
theorem q1683 : (Jvm.Cond.constantLong "CrossingWordsModel" (331 : Nat) (237458 : Int64)) ∈ lw_all := lw_g (lw_at lw_m7 149 rfl) rfl
theorem q1684 : (Jvm.Cond.constantLong "CrossingWordsModel" (333 : Nat) (286880 : Int64)) ∈ lw_all := lw_g (lw_at lw_m7 150 rfl) rfl
theorem q1685 : (Jvm.Cond.constantLong "CrossingWordsModel" (335 : Nat) (361379 : Int64)) ∈ lw_all := lw_g (lw_at lw_m7 151 rfl) rfl
theorem q1686 : (Jvm.Cond.constantLong "CrossingWordsModel" (337 : Nat) (798894590 : Int64)) ∈ lw_all := lw_g (lw_at lw_m7 152 rfl) rfl
theorem q1688 : (Jvm.Cond.instanceMethod ({ cls := "CrossingWordsModel", name := "clause", desc := "(I)I" } : Jvm.MethodName)) ∈ lw_all := lw_g (lw_at lw_m7 154 rfl) rfl
theorem q1689 : (Jvm.Cond.selects "CrossingWordsModel" ({ cls := "CrossingWordsModel", name := "clause", desc := "(I)I" } : Jvm.MethodName) ({ cls := "CrossingWordsModel", name := "clause", desc := "(I)I" } : Jvm.MethodName)) ∈ lw_all := lw_g (lw_at lw_m7 155 rfl) rfl
theorem q1690 : (Jvm.Cond.code ({ cls := "CrossingWordsModel", name := "clause", desc := "(I)I" } : Jvm.MethodName) prog_23_method_33_code (2 : Nat) (Option.some Jvm.ClassFile.FieldType.int)) ∈ lw_all := lw_g (lw_at lw_m7 156 rfl) rfl
theorem q1692 : (Jvm.Cond.instanceMethod ({ cls := "CrossingWordsModel", name := "fault", desc := "()I" } : Jvm.MethodName)) ∈ lw_all := lw_g (lw_at lw_m7 158 rfl) rfl
theorem q1693 : (Jvm.Cond.selects "CrossingWordsModel" ({ cls := "CrossingWordsModel", name := "fault", desc := "()I" } : Jvm.MethodName) ({ cls := "CrossingWordsModel", name := "fault", desc := "()I" } : Jvm.MethodName)) ∈ lw_all := lw_g (lw_at lw_m7 159 rfl) rfl
theorem q1694 : (Jvm.Cond.code ({ cls := "CrossingWordsModel", name := "fault", desc := "()I" } : Jvm.MethodName) prog_23_method_34_code (1 : Nat) (Option.some Jvm.ClassFile.FieldType.int)) ∈ lw_all := lw_g (lw_at lw_m7 160 rfl) rfl
theorem q1696 : (Jvm.Cond.instanceMethod ({ cls := "CrossingWordsModel", name := "rule", desc := "(II)I" } : Jvm.MethodName)) ∈ lw_all := lw_g (lw_at lw_m7 162 rfl) rfl
theorem q1697 : (Jvm.Cond.selects "CrossingWordsModel" ({ cls := "CrossingWordsModel", name := "rule", desc := "(II)I" } : Jvm.MethodName) ({ cls := "CrossingWordsModel", name := "rule", desc := "(II)I" } : Jvm.MethodName)) ∈ lw_all := lw_g (lw_at lw_m7 163 rfl) rfl
theorem q1698 : (Jvm.Cond.code ({ cls := "CrossingWordsModel", name := "rule", desc := "(II)I" } : Jvm.MethodName) prog_23_method_36_code (3 : Nat) (Option.some Jvm.ClassFile.FieldType.int)) ∈ lw_all := lw_g (lw_at lw_m7 164 rfl) rfl
theorem q1699 : (Jvm.Cond.methodLink "CrossingWordsModel" (345 : Nat) ({ cls := "CrossingWordsModel", name := "isLaw", desc := "(I)Z" } : Jvm.MethodName)) ∈ lw_all := lw_g (lw_at lw_m7 165 rfl) rfl
theorem q1700 : (Jvm.Cond.privateMethod ({ cls := "CrossingWordsModel", name := "isLaw", desc := "(I)Z" } : Jvm.MethodName)) ∈ lw_tbl := lw_at lw_m7 166 rfl
theorem q1701 : (Jvm.Cond.instanceMethod ({ cls := "CrossingWordsModel", name := "isLaw", desc := "(I)Z" } : Jvm.MethodName)) ∈ lw_all := lw_g (lw_at lw_m7 167 rfl) rfl
theorem q1702 : (Jvm.Cond.code ({ cls := "CrossingWordsModel", name := "isLaw", desc := "(I)Z" } : Jvm.MethodName) prog_23_method_26_code (2 : Nat) (Option.some Jvm.ClassFile.FieldType.boolean)) ∈ lw_all := lw_g (lw_at lw_m7 168 rfl) rfl
theorem q1703 : (Jvm.Cond.methodLink "CrossingWordsModel" (348 : Nat) ({ cls := "CrossingWordsModel", name := "lays", desc := "(II)V" } : Jvm.MethodName)) ∈ lw_all := lw_g (lw_at lw_m7 169 rfl) rfl
theorem q1704 : (Jvm.Cond.privateMethod ({ cls := "CrossingWordsModel", name := "lays", desc := "(II)V" } : Jvm.MethodName)) ∈ lw_tbl := lw_at lw_m7 170 rfl
theorem q1705 : (Jvm.Cond.instanceMethod ({ cls := "CrossingWordsModel", name := "lays", desc := "(II)V" } : Jvm.MethodName)) ∈ lw_all := lw_g (lw_at lw_m7 171 rfl) rfl
theorem q1706 : (Jvm.Cond.code ({ cls := "CrossingWordsModel", name := "lays", desc := "(II)V" } : Jvm.MethodName) prog_23_method_35_code (5 : Nat) (Option.none : Option Jvm.ClassFile.FieldType)) ∈ lw_all := lw_g (lw_at lw_m7 172 rfl) rfl
theorem q1708 : (Jvm.Cond.instanceMethod ({ cls := "CrossingWordsModel", name := "saying", desc := "(III)I" } : Jvm.MethodName)) ∈ lw_all := lw_g (lw_at lw_m7 174 rfl) rfl
theorem q1709 : (Jvm.Cond.selects "CrossingWordsModel" ({ cls := "CrossingWordsModel", name := "saying", desc := "(III)I" } : Jvm.MethodName) ({ cls := "CrossingWordsModel", name := "saying", desc := "(III)I" } : Jvm.MethodName)) ∈ lw_all := lw_g (lw_at lw_m7 175 rfl) rfl
theorem q1710 : (Jvm.Cond.code ({ cls := "CrossingWordsModel", name := "saying", desc := "(III)I" } : Jvm.MethodName) prog_23_method_37_code (5 : Nat) (Option.some Jvm.ClassFile.FieldType.int)) ∈ lw_all := lw_g (lw_at lw_m7 176 rfl) rfl
theorem q1712 : (Jvm.Cond.instanceMethod ({ cls := "CrossingWordsModel", name := "asked", desc := "(II)I" } : Jvm.MethodName)) ∈ lw_all := lw_g (lw_at lw_m7 178 rfl) rfl
theorem q1713 : (Jvm.Cond.selects "CrossingWordsModel" ({ cls := "CrossingWordsModel", name := "asked", desc := "(II)I" } : Jvm.MethodName) ({ cls := "CrossingWordsModel", name := "asked", desc := "(II)I" } : Jvm.MethodName)) ∈ lw_all := lw_g (lw_at lw_m7 179 rfl) rfl
theorem q1714 : (Jvm.Cond.code ({ cls := "CrossingWordsModel", name := "asked", desc := "(II)I" } : Jvm.MethodName) prog_23_method_63_code (3 : Nat) (Option.some Jvm.ClassFile.FieldType.int)) ∈ lw_all := lw_g (lw_at lw_m7 180 rfl) rfl
theorem q1715 : (Jvm.Cond.methodLink "CrossingWordsModel" (443 : Nat) ({ cls := "CrossingWordsModel", name := "bringPlain", desc := "(I)V" } : Jvm.MethodName)) ∈ lw_all := lw_g (lw_at lw_m7 181 rfl) rfl
theorem q1716 : (Jvm.Cond.privateMethod ({ cls := "CrossingWordsModel", name := "bringPlain", desc := "(I)V" } : Jvm.MethodName)) ∈ lw_tbl := lw_at lw_m7 182 rfl
theorem q1717 : (Jvm.Cond.instanceMethod ({ cls := "CrossingWordsModel", name := "bringPlain", desc := "(I)V" } : Jvm.MethodName)) ∈ lw_all := lw_g (lw_at lw_m7 183 rfl) rfl
theorem q1718 : (Jvm.Cond.code ({ cls := "CrossingWordsModel", name := "bringPlain", desc := "(I)V" } : Jvm.MethodName) prog_23_method_64_code (3 : Nat) (Option.none : Option Jvm.ClassFile.FieldType)) ∈ lw_all := lw_g (lw_at lw_m7 184 rfl) rfl
theorem q1719 : (Jvm.Cond.methodLink "CrossingWordsModel" (434 : Nat) ({ cls := "CrossingWordsModel", name := "bring", desc := "(I)V" } : Jvm.MethodName)) ∈ lw_all := lw_g (lw_at lw_m7 185 rfl) rfl
theorem q1720 : (Jvm.Cond.privateMethod ({ cls := "CrossingWordsModel", name := "bring", desc := "(I)V" } : Jvm.MethodName)) ∈ lw_tbl := lw_at lw_m7 186 rfl
theorem q1721 : (Jvm.Cond.instanceMethod ({ cls := "CrossingWordsModel", name := "bring", desc := "(I)V" } : Jvm.MethodName)) ∈ lw_all := lw_g (lw_at lw_m7 187 rfl) rfl
theorem q1722 : (Jvm.Cond.code ({ cls := "CrossingWordsModel", name := "bring", desc := "(I)V" } : Jvm.MethodName) prog_23_method_38_code (5 : Nat) (Option.none : Option Jvm.ClassFile.FieldType)) ∈ lw_all := lw_g (lw_at lw_m7 188 rfl) rfl
theorem q1723 : (Jvm.Cond.methodLink "CrossingWordsModel" (424 : Nat) ({ cls := "CrossingWordsModel", name := "findAsked", desc := "()V" } : Jvm.MethodName)) ∈ lw_all := lw_g (lw_at lw_m7 189 rfl) rfl
theorem q1724 : (Jvm.Cond.privateMethod ({ cls := "CrossingWordsModel", name := "findAsked", desc := "()V" } : Jvm.MethodName)) ∈ lw_tbl := lw_at lw_m7 190 rfl
theorem q1725 : (Jvm.Cond.instanceMethod ({ cls := "CrossingWordsModel", name := "findAsked", desc := "()V" } : Jvm.MethodName)) ∈ lw_all := lw_g (lw_at lw_m7 191 rfl) rfl
theorem q1726 : (Jvm.Cond.code ({ cls := "CrossingWordsModel", name := "findAsked", desc := "()V" } : Jvm.MethodName) prog_23_method_39_code (4 : Nat) (Option.none : Option Jvm.ClassFile.FieldType)) ∈ lw_all := lw_g (lw_at lw_m7 192 rfl) rfl
theorem q1727 : (Jvm.Cond.methodLink "CrossingWordsModel" (427 : Nat) ({ cls := "CrossingWordsModel", name := "isLooked", desc := "()Z" } : Jvm.MethodName)) ∈ lw_all := lw_g (lw_at lw_m7 193 rfl) rfl
theorem q1728 : (Jvm.Cond.privateMethod ({ cls := "CrossingWordsModel", name := "isLooked", desc := "()Z" } : Jvm.MethodName)) ∈ lw_tbl := lw_at lw_m7 194 rfl
theorem q1729 : (Jvm.Cond.instanceMethod ({ cls := "CrossingWordsModel", name := "isLooked", desc := "()Z" } : Jvm.MethodName)) ∈ lw_all := lw_g (lw_at lw_m7 195 rfl) rfl
theorem q1730 : (Jvm.Cond.code ({ cls := "CrossingWordsModel", name := "isLooked", desc := "()Z" } : Jvm.MethodName) prog_23_method_40_code (1 : Nat) (Option.some Jvm.ClassFile.FieldType.boolean)) ∈ lw_all := lw_g (lw_at lw_m7 196 rfl) rfl
theorem q1732 : (Jvm.Cond.instanceMethod ({ cls := "CrossingWordsModel", name := "hour", desc := "(IIII)I" } : Jvm.MethodName)) ∈ lw_all := lw_g (lw_at lw_m7 198 rfl) rfl
theorem q1733 : (Jvm.Cond.selects "CrossingWordsModel" ({ cls := "CrossingWordsModel", name := "hour", desc := "(IIII)I" } : Jvm.MethodName) ({ cls := "CrossingWordsModel", name := "hour", desc := "(IIII)I" } : Jvm.MethodName)) ∈ lw_all := lw_g (lw_at lw_m7 199 rfl) rfl
theorem q1734 : (Jvm.Cond.code ({ cls := "CrossingWordsModel", name := "hour", desc := "(IIII)I" } : Jvm.MethodName) prog_23_method_65_code (5 : Nat) (Option.some Jvm.ClassFile.FieldType.int)) ∈ lw_all := lw_g (lw_at lw_m7 200 rfl) rfl
theorem q1735 : (Jvm.Cond.methodLink "CrossingWordsModel" (412 : Nat) ({ cls := "CrossingWordsModel", name := "hours", desc := "(I)V" } : Jvm.MethodName)) ∈ lw_all := lw_g (lw_at lw_m7 201 rfl) rfl
theorem q1736 : (Jvm.Cond.privateMethod ({ cls := "CrossingWordsModel", name := "hours", desc := "(I)V" } : Jvm.MethodName)) ∈ lw_tbl := lw_at lw_m7 202 rfl
theorem q1737 : (Jvm.Cond.instanceMethod ({ cls := "CrossingWordsModel", name := "hours", desc := "(I)V" } : Jvm.MethodName)) ∈ lw_all := lw_g (lw_at lw_m7 203 rfl) rfl
theorem q1738 : (Jvm.Cond.code ({ cls := "CrossingWordsModel", name := "hours", desc := "(I)V" } : Jvm.MethodName) prog_23_method_41_code (5 : Nat) (Option.none : Option Jvm.ClassFile.FieldType)) ∈ lw_all := lw_g (lw_at lw_m7 204 rfl) rfl
theorem q1739 : (Jvm.Cond.methodLink "CrossingWordsModel" (363 : Nat) ({ cls := "CrossingWordsModel", name := "when", desc := "(II)I" } : Jvm.MethodName)) ∈ lw_all := lw_g (lw_at lw_m7 205 rfl) rfl
theorem q1740 : (Jvm.Cond.privateMethod ({ cls := "CrossingWordsModel", name := "when", desc := "(II)I" } : Jvm.MethodName)) ∈ lw_tbl := lw_at lw_m7 206 rfl
theorem q1741 : (Jvm.Cond.instanceMethod ({ cls := "CrossingWordsModel", name := "when", desc := "(II)I" } : Jvm.MethodName)) ∈ lw_all := lw_g (lw_at lw_m7 207 rfl) rfl
theorem q1742 : (Jvm.Cond.code ({ cls := "CrossingWordsModel", name := "when", desc := "(II)I" } : Jvm.MethodName) prog_23_method_42_code (3 : Nat) (Option.some Jvm.ClassFile.FieldType.int)) ∈ lw_all := lw_g (lw_at lw_m7 208 rfl) rfl
theorem q1744 : (Jvm.Cond.instanceMethod ({ cls := "CrossingWordsModel", name := "run", desc := "(IIII)I" } : Jvm.MethodName)) ∈ lw_all := lw_g (lw_at lw_m7 210 rfl) rfl
theorem q1745 : (Jvm.Cond.selects "CrossingWordsModel" ({ cls := "CrossingWordsModel", name := "run", desc := "(IIII)I" } : Jvm.MethodName) ({ cls := "CrossingWordsModel", name := "run", desc := "(IIII)I" } : Jvm.MethodName)) ∈ lw_all := lw_g (lw_at lw_m7 211 rfl) rfl
theorem q1746 : (Jvm.Cond.code ({ cls := "CrossingWordsModel", name := "run", desc := "(IIII)I" } : Jvm.MethodName) prog_23_method_66_code (5 : Nat) (Option.some Jvm.ClassFile.FieldType.int)) ∈ lw_all := lw_g (lw_at lw_m7 212 rfl) rfl
theorem q1747 : (Jvm.Cond.methodLink "CrossingWordsModel" (446 : Nat) ({ cls := "CrossingWordsModel", name := "looksAt", desc := "(III)Z" } : Jvm.MethodName)) ∈ lw_all := lw_g (lw_at lw_m7 213 rfl) rfl
theorem q1748 : (Jvm.Cond.privateMethod ({ cls := "CrossingWordsModel", name := "looksAt", desc := "(III)Z" } : Jvm.MethodName)) ∈ lw_tbl := lw_at lw_m7 214 rfl
theorem q1749 : (Jvm.Cond.instanceMethod ({ cls := "CrossingWordsModel", name := "looksAt", desc := "(III)Z" } : Jvm.MethodName)) ∈ lw_all := lw_g (lw_at lw_m7 215 rfl) rfl
theorem q1750 : (Jvm.Cond.code ({ cls := "CrossingWordsModel", name := "looksAt", desc := "(III)Z" } : Jvm.MethodName) prog_23_method_62_code (4 : Nat) (Option.some Jvm.ClassFile.FieldType.boolean)) ∈ lw_all := lw_g (lw_at lw_m7 216 rfl) rfl
theorem q1751 : (Jvm.Cond.methodLink "CrossingWordsModel" (440 : Nat) ({ cls := "CrossingWordsModel", name := "takes", desc := "(I)V" } : Jvm.MethodName)) ∈ lw_all := lw_g (lw_at lw_m7 217 rfl) rfl
theorem q1752 : (Jvm.Cond.privateMethod ({ cls := "CrossingWordsModel", name := "takes", desc := "(I)V" } : Jvm.MethodName)) ∈ lw_tbl := lw_at lw_m7 218 rfl
theorem q1753 : (Jvm.Cond.instanceMethod ({ cls := "CrossingWordsModel", name := "takes", desc := "(I)V" } : Jvm.MethodName)) ∈ lw_all := lw_g (lw_at lw_m7 219 rfl) rfl
theorem q1754 : (Jvm.Cond.code ({ cls := "CrossingWordsModel", name := "takes", desc := "(I)V" } : Jvm.MethodName) prog_23_method_61_code (4 : Nat) (Option.none : Option Jvm.ClassFile.FieldType)) ∈ lw_all := lw_g (lw_at lw_m7 220 rfl) rfl
theorem q1755 : (Jvm.Cond.methodLink "CrossingWordsModel" (437 : Nat) ({ cls := "CrossingWordsModel", name := "isSureNow", desc := "()Z" } : Jvm.MethodName)) ∈ lw_all := lw_g (lw_at lw_m7 221 rfl) rfl
theorem q1756 : (Jvm.Cond.privateMethod ({ cls := "CrossingWordsModel", name := "isSureNow", desc := "()Z" } : Jvm.MethodName)) ∈ lw_tbl := lw_at lw_m7 222 rfl
theorem q1757 : (Jvm.Cond.instanceMethod ({ cls := "CrossingWordsModel", name := "isSureNow", desc := "()Z" } : Jvm.MethodName)) ∈ lw_all := lw_g (lw_at lw_m7 223 rfl) rfl
theorem q1758 : (Jvm.Cond.code ({ cls := "CrossingWordsModel", name := "isSureNow", desc := "()Z" } : Jvm.MethodName) prog_23_method_60_code (2 : Nat) (Option.some Jvm.ClassFile.FieldType.boolean)) ∈ lw_all := lw_g (lw_at lw_m7 224 rfl) rfl
theorem q1759 : (Jvm.Cond.methodLink "CrossingWordsModel" (431 : Nat) ({ cls := "CrossingWordsModel", name := "looks", desc := "(I)V" } : Jvm.MethodName)) ∈ lw_all := lw_g (lw_at lw_m7 225 rfl) rfl
theorem q1760 : (Jvm.Cond.privateMethod ({ cls := "CrossingWordsModel", name := "looks", desc := "(I)V" } : Jvm.MethodName)) ∈ lw_tbl := lw_at lw_m7 226 rfl
theorem q1761 : (Jvm.Cond.instanceMethod ({ cls := "CrossingWordsModel", name := "looks", desc := "(I)V" } : Jvm.MethodName)) ∈ lw_all := lw_g (lw_at lw_m7 227 rfl) rfl
theorem q1762 : (Jvm.Cond.code ({ cls := "CrossingWordsModel", name := "looks", desc := "(I)V" } : Jvm.MethodName) prog_23_method_57_code (2 : Nat) (Option.none : Option Jvm.ClassFile.FieldType)) ∈ lw_all := lw_g (lw_at lw_m7 228 rfl) rfl
theorem q1763 : (Jvm.Cond.methodLink "CrossingWordsModel" (415 : Nat) ({ cls := "CrossingWordsModel", name := "findOffers", desc := "()V" } : Jvm.MethodName)) ∈ lw_all := lw_g (lw_at lw_m7 229 rfl) rfl
theorem q1764 : (Jvm.Cond.privateMethod ({ cls := "CrossingWordsModel", name := "findOffers", desc := "()V" } : Jvm.MethodName)) ∈ lw_tbl := lw_at lw_m7 230 rfl
theorem q1765 : (Jvm.Cond.instanceMethod ({ cls := "CrossingWordsModel", name := "findOffers", desc := "()V" } : Jvm.MethodName)) ∈ lw_all := lw_g (lw_at lw_m7 231 rfl) rfl
theorem q1766 : (Jvm.Cond.code ({ cls := "CrossingWordsModel", name := "findOffers", desc := "()V" } : Jvm.MethodName) prog_23_method_50_code (3 : Nat) (Option.none : Option Jvm.ClassFile.FieldType)) ∈ lw_all := lw_g (lw_at lw_m7 232 rfl) rfl
theorem q1767 : (Jvm.Cond.methodLink "CrossingWordsModel" (369 : Nat) ({ cls := "CrossingWordsModel", name := "isOffering", desc := "(I)Z" } : Jvm.MethodName)) ∈ lw_all := lw_g (lw_at lw_m7 233 rfl) rfl
theorem q1768 : (Jvm.Cond.privateMethod ({ cls := "CrossingWordsModel", name := "isOffering", desc := "(I)Z" } : Jvm.MethodName)) ∈ lw_tbl := lw_at lw_m7 234 rfl
theorem q1769 : (Jvm.Cond.instanceMethod ({ cls := "CrossingWordsModel", name := "isOffering", desc := "(I)Z" } : Jvm.MethodName)) ∈ lw_all := lw_g (lw_at lw_m7 235 rfl) rfl
theorem q1770 : (Jvm.Cond.code ({ cls := "CrossingWordsModel", name := "isOffering", desc := "(I)Z" } : Jvm.MethodName) prog_23_method_44_code (2 : Nat) (Option.some Jvm.ClassFile.FieldType.boolean)) ∈ lw_all := lw_g (lw_at lw_m7 236 rfl) rfl
theorem q1771 : (Jvm.Cond.methodLink "CrossingWordsModel" (360 : Nat) ({ cls := "CrossingWordsModel", name := "isSmall", desc := "(I)Z" } : Jvm.MethodName)) ∈ lw_all := lw_g (lw_at lw_m7 237 rfl) rfl
theorem q1772 : (Jvm.Cond.privateMethod ({ cls := "CrossingWordsModel", name := "isSmall", desc := "(I)Z" } : Jvm.MethodName)) ∈ lw_tbl := lw_at lw_m7 238 rfl
theorem q1773 : (Jvm.Cond.instanceMethod ({ cls := "CrossingWordsModel", name := "isSmall", desc := "(I)Z" } : Jvm.MethodName)) ∈ lw_all := lw_g (lw_at lw_m7 239 rfl) rfl
theorem q1774 : (Jvm.Cond.code ({ cls := "CrossingWordsModel", name := "isSmall", desc := "(I)Z" } : Jvm.MethodName) prog_23_method_43_code (3 : Nat) (Option.some Jvm.ClassFile.FieldType.boolean)) ∈ lw_all := lw_g (lw_at lw_m8 0 rfl) rfl
theorem q1775 : (Jvm.Cond.methodLink "CrossingWordsModel" (372 : Nat) ({ cls := "CrossingWordsModel", name := "backHour", desc := "(II)I" } : Jvm.MethodName)) ∈ lw_all := lw_g (lw_at lw_m8 1 rfl) rfl
theorem q1776 : (Jvm.Cond.privateMethod ({ cls := "CrossingWordsModel", name := "backHour", desc := "(II)I" } : Jvm.MethodName)) ∈ lw_tbl := lw_at lw_m8 2 rfl
theorem q1777 : (Jvm.Cond.instanceMethod ({ cls := "CrossingWordsModel", name := "backHour", desc := "(II)I" } : Jvm.MethodName)) ∈ lw_all := lw_g (lw_at lw_m8 3 rfl) rfl
theorem q1778 : (Jvm.Cond.code ({ cls := "CrossingWordsModel", name := "backHour", desc := "(II)I" } : Jvm.MethodName) prog_23_method_47_code (4 : Nat) (Option.some Jvm.ClassFile.FieldType.int)) ∈ lw_all := lw_g (lw_at lw_m8 4 rfl) rfl
theorem q1779 : (Jvm.Cond.methodLink "CrossingWordsModel" (375 : Nat) ({ cls := "CrossingWordsModel", name := "endsBy", desc := "(III)V" } : Jvm.MethodName)) ∈ lw_all := lw_g (lw_at lw_m8 5 rfl) rfl
theorem q1780 : (Jvm.Cond.privateMethod ({ cls := "CrossingWordsModel", name := "endsBy", desc := "(III)V" } : Jvm.MethodName)) ∈ lw_tbl := lw_at lw_m8 6 rfl
theorem q1781 : (Jvm.Cond.instanceMethod ({ cls := "CrossingWordsModel", name := "endsBy", desc := "(III)V" } : Jvm.MethodName)) ∈ lw_all := lw_g (lw_at lw_m8 7 rfl) rfl
theorem q1782 : (Jvm.Cond.code ({ cls := "CrossingWordsModel", name := "endsBy", desc := "(III)V" } : Jvm.MethodName) prog_23_method_49_code (4 : Nat) (Option.none : Option Jvm.ClassFile.FieldType)) ∈ lw_all := lw_g (lw_at lw_m8 8 rfl) rfl
theorem q1783 : (Jvm.Cond.methodLink "CrossingWordsModel" (378 : Nat) ({ cls := "CrossingWordsModel", name := "noHour", desc := "(II)I" } : Jvm.MethodName)) ∈ lw_all := lw_g (lw_at lw_m8 9 rfl) rfl
theorem q1784 : (Jvm.Cond.privateMethod ({ cls := "CrossingWordsModel", name := "noHour", desc := "(II)I" } : Jvm.MethodName)) ∈ lw_tbl := lw_at lw_m8 10 rfl
theorem q1785 : (Jvm.Cond.instanceMethod ({ cls := "CrossingWordsModel", name := "noHour", desc := "(II)I" } : Jvm.MethodName)) ∈ lw_all := lw_g (lw_at lw_m8 11 rfl) rfl
theorem q1786 : (Jvm.Cond.code ({ cls := "CrossingWordsModel", name := "noHour", desc := "(II)I" } : Jvm.MethodName) prog_23_method_48_code (3 : Nat) (Option.some Jvm.ClassFile.FieldType.int)) ∈ lw_all := lw_g (lw_at lw_m8 12 rfl) rfl
theorem q1787 : (Jvm.Cond.methodLink "CrossingWordsModel" (366 : Nat) ({ cls := "CrossingWordsModel", name := "isNo", desc := "(I)Z" } : Jvm.MethodName)) ∈ lw_all := lw_g (lw_at lw_m8 13 rfl) rfl
theorem q1788 : (Jvm.Cond.privateMethod ({ cls := "CrossingWordsModel", name := "isNo", desc := "(I)Z" } : Jvm.MethodName)) ∈ lw_tbl := lw_at lw_m8 14 rfl
theorem q1789 : (Jvm.Cond.instanceMethod ({ cls := "CrossingWordsModel", name := "isNo", desc := "(I)Z" } : Jvm.MethodName)) ∈ lw_all := lw_g (lw_at lw_m8 15 rfl) rfl
theorem q1790 : (Jvm.Cond.code ({ cls := "CrossingWordsModel", name := "isNo", desc := "(I)Z" } : Jvm.MethodName) prog_23_method_45_code (2 : Nat) (Option.some Jvm.ClassFile.FieldType.boolean)) ∈ lw_all := lw_g (lw_at lw_m8 16 rfl) rfl
theorem q1791 : (Jvm.Cond.methodLink "CrossingWordsModel" (418 : Nat) ({ cls := "CrossingWordsModel", name := "findBargain", desc := "()V" } : Jvm.MethodName)) ∈ lw_all := lw_g (lw_at lw_m8 17 rfl) rfl
theorem q1792 : (Jvm.Cond.privateMethod ({ cls := "CrossingWordsModel", name := "findBargain", desc := "()V" } : Jvm.MethodName)) ∈ lw_tbl := lw_at lw_m8 18 rfl
theorem q1793 : (Jvm.Cond.instanceMethod ({ cls := "CrossingWordsModel", name := "findBargain", desc := "()V" } : Jvm.MethodName)) ∈ lw_all := lw_g (lw_at lw_m8 19 rfl) rfl
theorem q1794 : (Jvm.Cond.code ({ cls := "CrossingWordsModel", name := "findBargain", desc := "()V" } : Jvm.MethodName) prog_23_method_56_code (4 : Nat) (Option.none : Option Jvm.ClassFile.FieldType)) ∈ lw_all := lw_g (lw_at lw_m8 20 rfl) rfl
theorem q1795 : (Jvm.Cond.methodLink "CrossingWordsModel" (393 : Nat) ({ cls := "CrossingWordsModel", name := "isYes", desc := "(I)Z" } : Jvm.MethodName)) ∈ lw_all := lw_g (lw_at lw_m8 21 rfl) rfl
theorem q1796 : (Jvm.Cond.privateMethod ({ cls := "CrossingWordsModel", name := "isYes", desc := "(I)Z" } : Jvm.MethodName)) ∈ lw_tbl := lw_at lw_m8 22 rfl
theorem q1797 : (Jvm.Cond.instanceMethod ({ cls := "CrossingWordsModel", name := "isYes", desc := "(I)Z" } : Jvm.MethodName)) ∈ lw_all := lw_g (lw_at lw_m8 23 rfl) rfl
theorem q1798 : (Jvm.Cond.code ({ cls := "CrossingWordsModel", name := "isYes", desc := "(I)Z" } : Jvm.MethodName) prog_23_method_46_code (2 : Nat) (Option.some Jvm.ClassFile.FieldType.boolean)) ∈ lw_all := lw_g (lw_at lw_m8 24 rfl) rfl
theorem q1799 : (Jvm.Cond.methodLink "CrossingWordsModel" (396 : Nat) ({ cls := "CrossingWordsModel", name := "yesHour", desc := "(I)I" } : Jvm.MethodName)) ∈ lw_all := lw_g (lw_at lw_m8 25 rfl) rfl
theorem q1800 : (Jvm.Cond.privateMethod ({ cls := "CrossingWordsModel", name := "yesHour", desc := "(I)I" } : Jvm.MethodName)) ∈ lw_tbl := lw_at lw_m8 26 rfl
theorem q1801 : (Jvm.Cond.instanceMethod ({ cls := "CrossingWordsModel", name := "yesHour", desc := "(I)I" } : Jvm.MethodName)) ∈ lw_all := lw_g (lw_at lw_m8 27 rfl) rfl
theorem q1802 : (Jvm.Cond.code ({ cls := "CrossingWordsModel", name := "yesHour", desc := "(I)I" } : Jvm.MethodName) prog_23_method_52_code (2 : Nat) (Option.some Jvm.ClassFile.FieldType.int)) ∈ lw_all := lw_g (lw_at lw_m8 28 rfl) rfl
theorem q1803 : (Jvm.Cond.methodLink "CrossingWordsModel" (399 : Nat) ({ cls := "CrossingWordsModel", name := "isTakenBack", desc := "(II)Z" } : Jvm.MethodName)) ∈ lw_all := lw_g (lw_at lw_m8 29 rfl) rfl
theorem q1804 : (Jvm.Cond.privateMethod ({ cls := "CrossingWordsModel", name := "isTakenBack", desc := "(II)Z" } : Jvm.MethodName)) ∈ lw_tbl := lw_at lw_m8 30 rfl
theorem q1805 : (Jvm.Cond.instanceMethod ({ cls := "CrossingWordsModel", name := "isTakenBack", desc := "(II)Z" } : Jvm.MethodName)) ∈ lw_all := lw_g (lw_at lw_m8 31 rfl) rfl
theorem q1806 : (Jvm.Cond.code ({ cls := "CrossingWordsModel", name := "isTakenBack", desc := "(II)Z" } : Jvm.MethodName) prog_23_method_53_code (5 : Nat) (Option.some Jvm.ClassFile.FieldType.boolean)) ∈ lw_all := lw_g (lw_at lw_m8 32 rfl) rfl
theorem q1807 : (Jvm.Cond.methodLink "CrossingWordsModel" (403 : Nat) ({ cls := "CrossingWordsModel", name := "isOpenAt", desc := "(II)Z" } : Jvm.MethodName)) ∈ lw_all := lw_g (lw_at lw_m8 33 rfl) rfl
theorem q1808 : (Jvm.Cond.privateMethod ({ cls := "CrossingWordsModel", name := "isOpenAt", desc := "(II)Z" } : Jvm.MethodName)) ∈ lw_tbl := lw_at lw_m8 34 rfl
theorem q1809 : (Jvm.Cond.instanceMethod ({ cls := "CrossingWordsModel", name := "isOpenAt", desc := "(II)Z" } : Jvm.MethodName)) ∈ lw_all := lw_g (lw_at lw_m8 35 rfl) rfl
theorem q1810 : (Jvm.Cond.code ({ cls := "CrossingWordsModel", name := "isOpenAt", desc := "(II)Z" } : Jvm.MethodName) prog_23_method_51_code (3 : Nat) (Option.some Jvm.ClassFile.FieldType.boolean)) ∈ lw_all := lw_g (lw_at lw_m8 36 rfl) rfl
theorem q1811 : (Jvm.Cond.methodLink "CrossingWordsModel" (406 : Nat) ({ cls := "CrossingWordsModel", name := "offersTo", desc := "(III)V" } : Jvm.MethodName)) ∈ lw_all := lw_g (lw_at lw_m8 37 rfl) rfl
theorem q1812 : (Jvm.Cond.privateMethod ({ cls := "CrossingWordsModel", name := "offersTo", desc := "(III)V" } : Jvm.MethodName)) ∈ lw_tbl := lw_at lw_m8 38 rfl
theorem q1813 : (Jvm.Cond.instanceMethod ({ cls := "CrossingWordsModel", name := "offersTo", desc := "(III)V" } : Jvm.MethodName)) ∈ lw_all := lw_g (lw_at lw_m8 39 rfl) rfl
theorem q1814 : (Jvm.Cond.code ({ cls := "CrossingWordsModel", name := "offersTo", desc := "(III)V" } : Jvm.MethodName) prog_23_method_54_code (4 : Nat) (Option.none : Option Jvm.ClassFile.FieldType)) ∈ lw_all := lw_g (lw_at lw_m8 40 rfl) rfl
theorem q1815 : (Jvm.Cond.methodLink "CrossingWordsModel" (409 : Nat) ({ cls := "CrossingWordsModel", name := "isAnswered", desc := "(II)Z" } : Jvm.MethodName)) ∈ lw_all := lw_g (lw_at lw_m8 41 rfl) rfl
theorem q1816 : (Jvm.Cond.privateMethod ({ cls := "CrossingWordsModel", name := "isAnswered", desc := "(II)Z" } : Jvm.MethodName)) ∈ lw_tbl := lw_at lw_m8 42 rfl
theorem q1817 : (Jvm.Cond.instanceMethod ({ cls := "CrossingWordsModel", name := "isAnswered", desc := "(II)Z" } : Jvm.MethodName)) ∈ lw_all := lw_g (lw_at lw_m8 43 rfl) rfl
theorem q1818 : (Jvm.Cond.code ({ cls := "CrossingWordsModel", name := "isAnswered", desc := "(II)Z" } : Jvm.MethodName) prog_23_method_55_code (5 : Nat) (Option.some Jvm.ClassFile.FieldType.boolean)) ∈ lw_all := lw_g (lw_at lw_m8 44 rfl) rfl
theorem q1819 : (Jvm.Cond.methodLink "CrossingWordsModel" (449 : Nat) ({ cls := "CrossingWordsModel", name := "bargainWord", desc := "(I)I" } : Jvm.MethodName)) ∈ lw_all := lw_g (lw_at lw_m8 45 rfl) rfl
theorem q1820 : (Jvm.Cond.privateMethod ({ cls := "CrossingWordsModel", name := "bargainWord", desc := "(I)I" } : Jvm.MethodName)) ∈ lw_tbl := lw_at lw_m8 46 rfl
theorem q1821 : (Jvm.Cond.instanceMethod ({ cls := "CrossingWordsModel", name := "bargainWord", desc := "(I)I" } : Jvm.MethodName)) ∈ lw_all := lw_g (lw_at lw_m8 47 rfl) rfl
theorem q1822 : (Jvm.Cond.code ({ cls := "CrossingWordsModel", name := "bargainWord", desc := "(I)I" } : Jvm.MethodName) prog_23_method_59_code (3 : Nat) (Option.some Jvm.ClassFile.FieldType.int)) ∈ lw_all := lw_g (lw_at lw_m8 48 rfl) rfl
theorem q1823 : (Jvm.Cond.methodLink "CrossingWordsModel" (421 : Nat) ({ cls := "CrossingWordsModel", name := "wordOf", desc := "(II)I" } : Jvm.MethodName)) ∈ lw_all := lw_g (lw_at lw_m8 49 rfl) rfl
theorem q1824 : (Jvm.Cond.privateMethod ({ cls := "CrossingWordsModel", name := "wordOf", desc := "(II)I" } : Jvm.MethodName)) ∈ lw_tbl := lw_at lw_m8 50 rfl
theorem q1825 : (Jvm.Cond.instanceMethod ({ cls := "CrossingWordsModel", name := "wordOf", desc := "(II)I" } : Jvm.MethodName)) ∈ lw_all := lw_g (lw_at lw_m8 51 rfl) rfl
theorem q1826 : (Jvm.Cond.code ({ cls := "CrossingWordsModel", name := "wordOf", desc := "(II)I" } : Jvm.MethodName) prog_23_method_58_code (4 : Nat) (Option.some Jvm.ClassFile.FieldType.int)) ∈ lw_all := lw_g (lw_at lw_m8 52 rfl) rfl
theorem q1828 : (Jvm.Cond.instanceMethod ({ cls := "CrossingWordsModel", name := "open", desc := "(IIIII)I" } : Jvm.MethodName)) ∈ lw_all := lw_g (lw_at lw_m8 54 rfl) rfl
theorem q1829 : (Jvm.Cond.selects "CrossingWordsModel" ({ cls := "CrossingWordsModel", name := "open", desc := "(IIIII)I" } : Jvm.MethodName) ({ cls := "CrossingWordsModel", name := "open", desc := "(IIIII)I" } : Jvm.MethodName)) ∈ lw_all := lw_g (lw_at lw_m8 55 rfl) rfl
theorem q1830 : (Jvm.Cond.code ({ cls := "CrossingWordsModel", name := "open", desc := "(IIIII)I" } : Jvm.MethodName) prog_23_method_67_code (6 : Nat) (Option.some Jvm.ClassFile.FieldType.int)) ∈ lw_all := lw_g (lw_at lw_m8 56 rfl) rfl
theorem q1832 : (Jvm.Cond.instanceMethod ({ cls := "CrossingWordsModel", name := "binds", desc := "(III)I" } : Jvm.MethodName)) ∈ lw_all := lw_g (lw_at lw_m8 58 rfl) rfl
theorem q1833 : (Jvm.Cond.selects "CrossingWordsModel" ({ cls := "CrossingWordsModel", name := "binds", desc := "(III)I" } : Jvm.MethodName) ({ cls := "CrossingWordsModel", name := "binds", desc := "(III)I" } : Jvm.MethodName)) ∈ lw_all := lw_g (lw_at lw_m8 59 rfl) rfl
theorem q1834 : (Jvm.Cond.code ({ cls := "CrossingWordsModel", name := "binds", desc := "(III)I" } : Jvm.MethodName) prog_23_method_68_code (4 : Nat) (Option.some Jvm.ClassFile.FieldType.int)) ∈ lw_all := lw_g (lw_at lw_m8 60 rfl) rfl
theorem q1836 : (Jvm.Cond.instanceMethod ({ cls := "CrossingWordsModel", name := "sure", desc := "(III)I" } : Jvm.MethodName)) ∈ lw_all := lw_g (lw_at lw_m8 62 rfl) rfl
theorem q1837 : (Jvm.Cond.selects "CrossingWordsModel" ({ cls := "CrossingWordsModel", name := "sure", desc := "(III)I" } : Jvm.MethodName) ({ cls := "CrossingWordsModel", name := "sure", desc := "(III)I" } : Jvm.MethodName)) ∈ lw_all := lw_g (lw_at lw_m8 63 rfl) rfl
theorem q1838 : (Jvm.Cond.code ({ cls := "CrossingWordsModel", name := "sure", desc := "(III)I" } : Jvm.MethodName) prog_23_method_69_code (10 : Nat) (Option.some Jvm.ClassFile.FieldType.int)) ∈ lw_all := lw_g (lw_at lw_m8 64 rfl) rfl
theorem q1840 : (Jvm.Cond.instanceMethod ({ cls := "CrossingWordsModel", name := "hang", desc := "(II)I" } : Jvm.MethodName)) ∈ lw_all := lw_g (lw_at lw_m8 66 rfl) rfl
theorem q1841 : (Jvm.Cond.selects "CrossingWordsModel" ({ cls := "CrossingWordsModel", name := "hang", desc := "(II)I" } : Jvm.MethodName) ({ cls := "CrossingWordsModel", name := "hang", desc := "(II)I" } : Jvm.MethodName)) ∈ lw_all := lw_g (lw_at lw_m8 67 rfl) rfl
theorem q1842 : (Jvm.Cond.code ({ cls := "CrossingWordsModel", name := "hang", desc := "(II)I" } : Jvm.MethodName) prog_23_method_73_code (5 : Nat) (Option.some Jvm.ClassFile.FieldType.int)) ∈ lw_all := lw_g (lw_at lw_m8 68 rfl) rfl
theorem q1843 : (Jvm.Cond.methodLink "CrossingWordsModel" (455 : Nat) ({ cls := "CrossingWordsModel", name := "bitsOf", desc := "(I)I" } : Jvm.MethodName)) ∈ lw_all := lw_g (lw_at lw_m8 69 rfl) rfl
theorem q1844 : (Jvm.Cond.static ({ cls := "CrossingWordsModel", name := "bitsOf", desc := "(I)I" } : Jvm.MethodName)) ∈ lw_all := lw_g (lw_at lw_m8 70 rfl) rfl
theorem q1845 : (Jvm.Cond.code ({ cls := "CrossingWordsModel", name := "bitsOf", desc := "(I)I" } : Jvm.MethodName) prog_23_method_70_code (3 : Nat) (Option.some Jvm.ClassFile.FieldType.int)) ∈ lw_all := lw_g (lw_at lw_m8 71 rfl) rfl
theorem q1846 : (Jvm.Cond.methodLink "CrossingWordsModel" (458 : Nat) ({ cls := "CrossingWordsModel", name := "tells", desc := "(I)Z" } : Jvm.MethodName)) ∈ lw_all := lw_g (lw_at lw_m8 72 rfl) rfl
theorem q1847 : (Jvm.Cond.privateMethod ({ cls := "CrossingWordsModel", name := "tells", desc := "(I)Z" } : Jvm.MethodName)) ∈ lw_tbl := lw_at lw_m8 73 rfl
theorem q1848 : (Jvm.Cond.instanceMethod ({ cls := "CrossingWordsModel", name := "tells", desc := "(I)Z" } : Jvm.MethodName)) ∈ lw_all := lw_g (lw_at lw_m8 74 rfl) rfl
theorem q1849 : (Jvm.Cond.code ({ cls := "CrossingWordsModel", name := "tells", desc := "(I)Z" } : Jvm.MethodName) prog_23_method_72_code (5 : Nat) (Option.some Jvm.ClassFile.FieldType.boolean)) ∈ lw_all := lw_g (lw_at lw_m8 75 rfl) rfl
theorem q1850 : (Jvm.Cond.methodLink "CrossingWordsModel" (452 : Nat) ({ cls := "CrossingWordsModel", name := "known", desc := "(II)I" } : Jvm.MethodName)) ∈ lw_all := lw_g (lw_at lw_m8 76 rfl) rfl
theorem q1851 : (Jvm.Cond.privateMethod ({ cls := "CrossingWordsModel", name := "known", desc := "(II)I" } : Jvm.MethodName)) ∈ lw_tbl := lw_at lw_m8 77 rfl
theorem q1852 : (Jvm.Cond.instanceMethod ({ cls := "CrossingWordsModel", name := "known", desc := "(II)I" } : Jvm.MethodName)) ∈ lw_all := lw_g (lw_at lw_m8 78 rfl) rfl
theorem q1853 : (Jvm.Cond.code ({ cls := "CrossingWordsModel", name := "known", desc := "(II)I" } : Jvm.MethodName) prog_23_method_71_code (7 : Nat) (Option.some Jvm.ClassFile.FieldType.int)) ∈ lw_all := lw_g (lw_at lw_m8 79 rfl) rfl
theorem q1855 : (Jvm.Cond.instanceMethod ({ cls := "CrossingWordsModel", name := "bears", desc := "(IIII)I" } : Jvm.MethodName)) ∈ lw_all := lw_g (lw_at lw_m8 81 rfl) rfl
theorem q1856 : (Jvm.Cond.selects "CrossingWordsModel" ({ cls := "CrossingWordsModel", name := "bears", desc := "(IIII)I" } : Jvm.MethodName) ({ cls := "CrossingWordsModel", name := "bears", desc := "(IIII)I" } : Jvm.MethodName)) ∈ lw_all := lw_g (lw_at lw_m8 82 rfl) rfl
theorem q1857 : (Jvm.Cond.code ({ cls := "CrossingWordsModel", name := "bears", desc := "(IIII)I" } : Jvm.MethodName) prog_23_method_74_code (8 : Nat) (Option.some Jvm.ClassFile.FieldType.int)) ∈ lw_all := lw_g (lw_at lw_m8 83 rfl) rfl
theorem q1859 : (Jvm.Cond.instanceMethod ({ cls := "CrossingWordsModel", name := "judge", desc := "(IIIII)I" } : Jvm.MethodName)) ∈ lw_all := lw_g (lw_at lw_m8 85 rfl) rfl
theorem q1860 : (Jvm.Cond.selects "CrossingWordsModel" ({ cls := "CrossingWordsModel", name := "judge", desc := "(IIIII)I" } : Jvm.MethodName) ({ cls := "CrossingWordsModel", name := "judge", desc := "(IIIII)I" } : Jvm.MethodName)) ∈ lw_all := lw_g (lw_at lw_m8 86 rfl) rfl
theorem q1861 : (Jvm.Cond.code ({ cls := "CrossingWordsModel", name := "judge", desc := "(IIIII)I" } : Jvm.MethodName) prog_23_method_75_code (6 : Nat) (Option.some Jvm.ClassFile.FieldType.int)) ∈ lw_all := lw_g (lw_at lw_m8 87 rfl) rfl
theorem q1863 : (Jvm.Cond.instanceMethod ({ cls := "CrossingWordsModel", name := "apart", desc := "(IIII)I" } : Jvm.MethodName)) ∈ lw_all := lw_g (lw_at lw_m8 89 rfl) rfl
theorem q1864 : (Jvm.Cond.selects "CrossingWordsModel" ({ cls := "CrossingWordsModel", name := "apart", desc := "(IIII)I" } : Jvm.MethodName) ({ cls := "CrossingWordsModel", name := "apart", desc := "(IIII)I" } : Jvm.MethodName)) ∈ lw_all := lw_g (lw_at lw_m8 90 rfl) rfl
theorem q1865 : (Jvm.Cond.code ({ cls := "CrossingWordsModel", name := "apart", desc := "(IIII)I" } : Jvm.MethodName) prog_23_method_77_code (5 : Nat) (Option.some Jvm.ClassFile.FieldType.int)) ∈ lw_all := lw_g (lw_at lw_m8 91 rfl) rfl
theorem q1866 : (Jvm.Cond.methodLink "CrossingWordsModel" (467 : Nat) ({ cls := "CrossingWordsModel", name := "findApart", desc := "(III)Z" } : Jvm.MethodName)) ∈ lw_all := lw_g (lw_at lw_m8 92 rfl) rfl
theorem q1867 : (Jvm.Cond.privateMethod ({ cls := "CrossingWordsModel", name := "findApart", desc := "(III)Z" } : Jvm.MethodName)) ∈ lw_tbl := lw_at lw_m8 93 rfl
theorem q1868 : (Jvm.Cond.instanceMethod ({ cls := "CrossingWordsModel", name := "findApart", desc := "(III)Z" } : Jvm.MethodName)) ∈ lw_all := lw_g (lw_at lw_m8 94 rfl) rfl
theorem q1869 : (Jvm.Cond.code ({ cls := "CrossingWordsModel", name := "findApart", desc := "(III)Z" } : Jvm.MethodName) prog_23_method_76_code (7 : Nat) (Option.some Jvm.ClassFile.FieldType.boolean)) ∈ lw_all := lw_g (lw_at lw_m8 95 rfl) rfl
theorem q1871 : (Jvm.Cond.instanceMethod ({ cls := "CrossingWordsModel", name := "part", desc := "(II)I" } : Jvm.MethodName)) ∈ lw_all := lw_g (lw_at lw_m8 97 rfl) rfl
theorem q1872 : (Jvm.Cond.selects "CrossingWordsModel" ({ cls := "CrossingWordsModel", name := "part", desc := "(II)I" } : Jvm.MethodName) ({ cls := "CrossingWordsModel", name := "part", desc := "(II)I" } : Jvm.MethodName)) ∈ lw_all := lw_g (lw_at lw_m8 98 rfl) rfl
theorem q1873 : (Jvm.Cond.code ({ cls := "CrossingWordsModel", name := "part", desc := "(II)I" } : Jvm.MethodName) prog_23_method_78_code (5 : Nat) (Option.some Jvm.ClassFile.FieldType.int)) ∈ lw_all := lw_g (lw_at lw_m8 99 rfl) rfl
theorem q1875 : (Jvm.Cond.instanceMethod ({ cls := "CrossingWordsModel", name := "write", desc := "(I)I" } : Jvm.MethodName)) ∈ lw_all := lw_g (lw_at lw_m8 101 rfl) rfl
theorem q1876 : (Jvm.Cond.selects "CrossingWordsModel" ({ cls := "CrossingWordsModel", name := "write", desc := "(I)I" } : Jvm.MethodName) ({ cls := "CrossingWordsModel", name := "write", desc := "(I)I" } : Jvm.MethodName)) ∈ lw_all := lw_g (lw_at lw_m8 102 rfl) rfl
theorem q1877 : (Jvm.Cond.code ({ cls := "CrossingWordsModel", name := "write", desc := "(I)I" } : Jvm.MethodName) prog_23_method_80_code (4 : Nat) (Option.some Jvm.ClassFile.FieldType.int)) ∈ lw_all := lw_g (lw_at lw_m8 103 rfl) rfl
theorem q1878 : (Jvm.Cond.methodLink "CrossingWordsModel" (470 : Nat) ({ cls := "CrossingWordsModel", name := "isWritten", desc := "(II)Z" } : Jvm.MethodName)) ∈ lw_all := lw_g (lw_at lw_m8 104 rfl) rfl
theorem q1879 : (Jvm.Cond.privateMethod ({ cls := "CrossingWordsModel", name := "isWritten", desc := "(II)Z" } : Jvm.MethodName)) ∈ lw_tbl := lw_at lw_m8 105 rfl
theorem q1880 : (Jvm.Cond.instanceMethod ({ cls := "CrossingWordsModel", name := "isWritten", desc := "(II)Z" } : Jvm.MethodName)) ∈ lw_all := lw_g (lw_at lw_m8 106 rfl) rfl
theorem q1881 : (Jvm.Cond.code ({ cls := "CrossingWordsModel", name := "isWritten", desc := "(II)Z" } : Jvm.MethodName) prog_23_method_79_code (4 : Nat) (Option.some Jvm.ClassFile.FieldType.boolean)) ∈ lw_all := lw_g (lw_at lw_m8 107 rfl) rfl
theorem q1883 : (Jvm.Cond.instanceMethod ({ cls := "CrossingWordsModel", name := "does", desc := "(IIII)I" } : Jvm.MethodName)) ∈ lw_all := lw_g (lw_at lw_m8 109 rfl) rfl
theorem q1884 : (Jvm.Cond.selects "CrossingWordsModel" ({ cls := "CrossingWordsModel", name := "does", desc := "(IIII)I" } : Jvm.MethodName) ({ cls := "CrossingWordsModel", name := "does", desc := "(IIII)I" } : Jvm.MethodName)) ∈ lw_all := lw_g (lw_at lw_m8 110 rfl) rfl
theorem q1885 : (Jvm.Cond.code ({ cls := "CrossingWordsModel", name := "does", desc := "(IIII)I" } : Jvm.MethodName) prog_23_method_81_code (9 : Nat) (Option.some Jvm.ClassFile.FieldType.int)) ∈ lw_all := lw_g (lw_at lw_m8 111 rfl) rfl
theorem q1887 : (Jvm.Cond.instanceMethod ({ cls := "CrossingWordsModel", name := "can", desc := "(IIIII)I" } : Jvm.MethodName)) ∈ lw_all := lw_g (lw_at lw_m8 113 rfl) rfl
theorem q1888 : (Jvm.Cond.selects "CrossingWordsModel" ({ cls := "CrossingWordsModel", name := "can", desc := "(IIIII)I" } : Jvm.MethodName) ({ cls := "CrossingWordsModel", name := "can", desc := "(IIIII)I" } : Jvm.MethodName)) ∈ lw_all := lw_g (lw_at lw_m8 114 rfl) rfl
theorem q1889 : (Jvm.Cond.code ({ cls := "CrossingWordsModel", name := "can", desc := "(IIIII)I" } : Jvm.MethodName) prog_23_method_83_code (6 : Nat) (Option.some Jvm.ClassFile.FieldType.int)) ∈ lw_all := lw_g (lw_at lw_m8 115 rfl) rfl
theorem q1890 : (Jvm.Cond.methodLink "CrossingWordsModel" (473 : Nat) ({ cls := "CrossingWordsModel", name := "canAt", desc := "(II)I" } : Jvm.MethodName)) ∈ lw_all := lw_g (lw_at lw_m8 116 rfl) rfl
theorem q1891 : (Jvm.Cond.privateMethod ({ cls := "CrossingWordsModel", name := "canAt", desc := "(II)I" } : Jvm.MethodName)) ∈ lw_tbl := lw_at lw_m8 117 rfl
theorem q1892 : (Jvm.Cond.instanceMethod ({ cls := "CrossingWordsModel", name := "canAt", desc := "(II)I" } : Jvm.MethodName)) ∈ lw_all := lw_g (lw_at lw_m8 118 rfl) rfl
theorem q1893 : (Jvm.Cond.code ({ cls := "CrossingWordsModel", name := "canAt", desc := "(II)I" } : Jvm.MethodName) prog_23_method_82_code (5 : Nat) (Option.some Jvm.ClassFile.FieldType.int)) ∈ lw_all := lw_g (lw_at lw_m8 119 rfl) rfl
theorem q1895 : (Jvm.Cond.instanceMethod ({ cls := "CrossingWordsModel", name := "until", desc := "(IIIII)I" } : Jvm.MethodName)) ∈ lw_all := lw_g (lw_at lw_m8 121 rfl) rfl
theorem q1896 : (Jvm.Cond.selects "CrossingWordsModel" ({ cls := "CrossingWordsModel", name := "until", desc := "(IIIII)I" } : Jvm.MethodName) ({ cls := "CrossingWordsModel", name := "until", desc := "(IIIII)I" } : Jvm.MethodName)) ∈ lw_all := lw_g (lw_at lw_m8 122 rfl) rfl
theorem q1897 : (Jvm.Cond.code ({ cls := "CrossingWordsModel", name := "until", desc := "(IIIII)I" } : Jvm.MethodName) prog_23_method_84_code (7 : Nat) (Option.some Jvm.ClassFile.FieldType.int)) ∈ lw_all := lw_g (lw_at lw_m8 123 rfl) rfl
theorem q1899 : (Jvm.Cond.instanceMethod ({ cls := "CrossingWordsModel", name := "lost", desc := "(III)I" } : Jvm.MethodName)) ∈ lw_all := lw_g (lw_at lw_m8 125 rfl) rfl
theorem q1900 : (Jvm.Cond.selects "CrossingWordsModel" ({ cls := "CrossingWordsModel", name := "lost", desc := "(III)I" } : Jvm.MethodName) ({ cls := "CrossingWordsModel", name := "lost", desc := "(III)I" } : Jvm.MethodName)) ∈ lw_all := lw_g (lw_at lw_m8 126 rfl) rfl
theorem q1901 : (Jvm.Cond.code ({ cls := "CrossingWordsModel", name := "lost", desc := "(III)I" } : Jvm.MethodName) prog_23_method_87_code (4 : Nat) (Option.some Jvm.ClassFile.FieldType.int)) ∈ lw_all := lw_g (lw_at lw_m8 127 rfl) rfl
theorem q1902 : (Jvm.Cond.methodLink "CrossingWordsModel" (476 : Nat) ({ cls := "CrossingWordsModel", name := "isSaid", desc := "(III)Z" } : Jvm.MethodName)) ∈ lw_all := lw_g (lw_at lw_m8 128 rfl) rfl
theorem q1903 : (Jvm.Cond.privateMethod ({ cls := "CrossingWordsModel", name := "isSaid", desc := "(III)Z" } : Jvm.MethodName)) ∈ lw_tbl := lw_at lw_m8 129 rfl
theorem q1904 : (Jvm.Cond.instanceMethod ({ cls := "CrossingWordsModel", name := "isSaid", desc := "(III)Z" } : Jvm.MethodName)) ∈ lw_all := lw_g (lw_at lw_m8 130 rfl) rfl
theorem q1905 : (Jvm.Cond.code ({ cls := "CrossingWordsModel", name := "isSaid", desc := "(III)Z" } : Jvm.MethodName) prog_23_method_86_code (4 : Nat) (Option.some Jvm.ClassFile.FieldType.boolean)) ∈ lw_all := lw_g (lw_at lw_m8 131 rfl) rfl
theorem q1906 : (Jvm.Cond.methodLink "CrossingWordsModel" (479 : Nat) ({ cls := "CrossingWordsModel", name := "withBargain", desc := "()I" } : Jvm.MethodName)) ∈ lw_all := lw_g (lw_at lw_m8 132 rfl) rfl
theorem q1907 : (Jvm.Cond.privateMethod ({ cls := "CrossingWordsModel", name := "withBargain", desc := "()I" } : Jvm.MethodName)) ∈ lw_tbl := lw_at lw_m8 133 rfl
theorem q1908 : (Jvm.Cond.instanceMethod ({ cls := "CrossingWordsModel", name := "withBargain", desc := "()I" } : Jvm.MethodName)) ∈ lw_all := lw_g (lw_at lw_m8 134 rfl) rfl
theorem q1909 : (Jvm.Cond.code ({ cls := "CrossingWordsModel", name := "withBargain", desc := "()I" } : Jvm.MethodName) prog_23_method_85_code (3 : Nat) (Option.some Jvm.ClassFile.FieldType.int)) ∈ lw_all := lw_g (lw_at lw_m8 135 rfl) rfl
theorem q1911 : (Jvm.Cond.instanceMethod ({ cls := "CrossingWordsModel", name := "wired", desc := "(III)I" } : Jvm.MethodName)) ∈ lw_all := lw_g (lw_at lw_m8 137 rfl) rfl
theorem q1912 : (Jvm.Cond.selects "CrossingWordsModel" ({ cls := "CrossingWordsModel", name := "wired", desc := "(III)I" } : Jvm.MethodName) ({ cls := "CrossingWordsModel", name := "wired", desc := "(III)I" } : Jvm.MethodName)) ∈ lw_all := lw_g (lw_at lw_m8 138 rfl) rfl
theorem q1913 : (Jvm.Cond.code ({ cls := "CrossingWordsModel", name := "wired", desc := "(III)I" } : Jvm.MethodName) prog_23_method_88_code (5 : Nat) (Option.some Jvm.ClassFile.FieldType.int)) ∈ lw_all := lw_g (lw_at lw_m8 139 rfl) rfl
theorem q1915 : (Jvm.Cond.instanceMethod ({ cls := "CrossingWordsModel", name := "image", desc := "()I" } : Jvm.MethodName)) ∈ lw_all := lw_g (lw_at lw_m8 141 rfl) rfl
theorem q1916 : (Jvm.Cond.selects "CrossingWordsModel" ({ cls := "CrossingWordsModel", name := "image", desc := "()I" } : Jvm.MethodName) ({ cls := "CrossingWordsModel", name := "image", desc := "()I" } : Jvm.MethodName)) ∈ lw_all := lw_g (lw_at lw_m8 142 rfl) rfl
theorem q1917 : (Jvm.Cond.code ({ cls := "CrossingWordsModel", name := "image", desc := "()I" } : Jvm.MethodName) prog_23_method_90_code (1 : Nat) (Option.some Jvm.ClassFile.FieldType.int)) ∈ lw_all := lw_g (lw_at lw_m8 143 rfl) rfl
theorem q1918 : (Jvm.Cond.methodLink "CrossingWordsModel" (485 : Nat) ({ cls := "CrossingWordsModel", name := "copies", desc := "(II)V" } : Jvm.MethodName)) ∈ lw_all := lw_g (lw_at lw_m8 144 rfl) rfl
theorem q1919 : (Jvm.Cond.privateMethod ({ cls := "CrossingWordsModel", name := "copies", desc := "(II)V" } : Jvm.MethodName)) ∈ lw_tbl := lw_at lw_m8 145 rfl
theorem q1920 : (Jvm.Cond.instanceMethod ({ cls := "CrossingWordsModel", name := "copies", desc := "(II)V" } : Jvm.MethodName)) ∈ lw_all := lw_g (lw_at lw_m8 146 rfl) rfl
theorem q1921 : (Jvm.Cond.code ({ cls := "CrossingWordsModel", name := "copies", desc := "(II)V" } : Jvm.MethodName) prog_23_method_89_code (4 : Nat) (Option.none : Option Jvm.ClassFile.FieldType)) ∈ lw_all := lw_g (lw_at lw_m8 147 rfl) rfl
theorem q1923 : (Jvm.Cond.instanceMethod ({ cls := "CrossingWordsModel", name := "back", desc := "(I)Z" } : Jvm.MethodName)) ∈ lw_all := lw_g (lw_at lw_m8 149 rfl) rfl
theorem q1924 : (Jvm.Cond.selects "CrossingWordsModel" ({ cls := "CrossingWordsModel", name := "back", desc := "(I)Z" } : Jvm.MethodName) ({ cls := "CrossingWordsModel", name := "back", desc := "(I)Z" } : Jvm.MethodName)) ∈ lw_all := lw_g (lw_at lw_m8 150 rfl) rfl
theorem q1925 : (Jvm.Cond.code ({ cls := "CrossingWordsModel", name := "back", desc := "(I)Z" } : Jvm.MethodName) prog_23_method_91_code (2 : Nat) (Option.some Jvm.ClassFile.FieldType.boolean)) ∈ lw_all := lw_g (lw_at lw_m8 151 rfl) rfl
theorem q1927 : (Jvm.Cond.instanceMethod ({ cls := "CrossingWordsModel", name := "count", desc := "(I)I" } : Jvm.MethodName)) ∈ lw_all := lw_g (lw_at lw_m8 153 rfl) rfl
theorem q1928 : (Jvm.Cond.selects "CrossingWordsModel" ({ cls := "CrossingWordsModel", name := "count", desc := "(I)I" } : Jvm.MethodName) ({ cls := "CrossingWordsModel", name := "count", desc := "(I)I" } : Jvm.MethodName)) ∈ lw_all := lw_g (lw_at lw_m8 154 rfl) rfl
theorem q1929 : (Jvm.Cond.code ({ cls := "CrossingWordsModel", name := "count", desc := "(I)I" } : Jvm.MethodName) prog_23_method_93_code (2 : Nat) (Option.some Jvm.ClassFile.FieldType.int)) ∈ lw_all := lw_g (lw_at lw_m8 155 rfl) rfl
theorem q1930 : (Jvm.Cond.methodLink "CrossingWordsModel" (488 : Nat) ({ cls := "CrossingWordsModel", name := "sayingsInAll", desc := "()I" } : Jvm.MethodName)) ∈ lw_all := lw_g (lw_at lw_m8 156 rfl) rfl
theorem q1931 : (Jvm.Cond.privateMethod ({ cls := "CrossingWordsModel", name := "sayingsInAll", desc := "()I" } : Jvm.MethodName)) ∈ lw_tbl := lw_at lw_m8 157 rfl
theorem q1932 : (Jvm.Cond.instanceMethod ({ cls := "CrossingWordsModel", name := "sayingsInAll", desc := "()I" } : Jvm.MethodName)) ∈ lw_all := lw_g (lw_at lw_m8 158 rfl) rfl
theorem q1933 : (Jvm.Cond.code ({ cls := "CrossingWordsModel", name := "sayingsInAll", desc := "()I" } : Jvm.MethodName) prog_23_method_92_code (3 : Nat) (Option.some Jvm.ClassFile.FieldType.int)) ∈ lw_all := lw_g (lw_at lw_m8 159 rfl) rfl
theorem in_X2 : ∀ w ∈ wsX20, w ∈ lw_all := lw_in wsX20 [1403, 1405, 1407, 1409, 1411, 1413, 1415, 1417, 1419, 1421, 1423, 1425, 1427, 1429, 1431, 1433, 1435, 1437, 1439, 1441, 1443, 1445, 1447, 1449, 1451, 1453, 1455, 1457, 1459, 1461, 1463, 1465, 1467, 1469, 1471, 1473, 1475, 1477, 1479, 1481, 1483, 1485, 1487, 1489, 1491, 1493, 1495, 1497, 1499, 1501, 1503, 1505, 1507, 1509, 1511, 1513, 1515, 1517, 1519, 1521, 1523, 1525, 1527] (by decide +kernel) (by decide +kernel)
