/-! SecretBuyersModel -/
set_option maxRecDepth 100000
def RX4 : String := "SecretBuyersModel"
def TX4 : u_T := fun k => match k with
  | 0 => ("SecretBuyersModel", "thrown", "I", false)
  | 1 => ("SecretBuyersModel", "tape", "[I", true)
  | 2 => ("SecretBuyersModel", "taped", "I", false)
  | 3 => ("SecretBuyersModel", "size", "I", false)
  | 4 => ("SecretBuyersModel", "sort", "[I", true)
  | 5 => ("SecretBuyersModel", "place", "[I", true)
  | 6 => ("SecretBuyersModel", "value", "[J", true)
  | 7 => ("SecretBuyersModel", "at", "I", false)
  | 8 => ("SecretBuyersModel", "fault", "I", false)
  | 9 => ("SecretBuyersModel", "words", "[J", true)
  | 10 => ("SecretBuyersModel", "briefs", "I", false)
  | 11 => ("SecretBuyersModel", "briefChain", "[I", true)
  | 12 => ("SecretBuyersModel", "briefFrom", "[I", true)
  | 13 => ("SecretBuyersModel", "briefOn", "[I", true)
  | 14 => ("SecretBuyersModel", "lines", "[I", true)
  | 15 => ("SecretBuyersModel", "lineKind", "[I", true)
  | 16 => ("SecretBuyersModel", "lineN", "[I", true)
  | 17 => ("SecretBuyersModel", "lineAt", "[I", true)
  | 18 => ("SecretBuyersModel", "lineWhen", "[I", true)
  | 19 => ("SecretBuyersModel", "names", "I", false)
  | 20 => ("SecretBuyersModel", "name", "[J", true)
  | 21 => ("SecretBuyersModel", "codes", "I", false)
  | 22 => ("SecretBuyersModel", "op", "[I", true)
  | 23 => ("SecretBuyersModel", "one", "[I", true)
  | 24 => ("SecretBuyersModel", "known", "[I", true)
  | 25 => ("SecretBuyersModel", "form", "I", false)
  | 26 => ("SecretBuyersModel", "named", "[I", true)
  | 27 => ("SecretBuyersModel", "pile", "[I", true)
  | 28 => ("SecretBuyersModel", "scored", "I", false)
  | 29 => ("SecretBuyersModel", "bonused", "I", false)
  | 30 => ("SecretBuyersModel", "now", "I", false)
  | 31 => ("SecretBuyersModel", "viewed", "I", false)
  | 32 => ("SecretBuyersModel", "shops", "I", false)
  | 33 => ("SecretBuyersModel", "shopX", "[I", true)
  | 34 => ("SecretBuyersModel", "shopY", "[I", true)
  | 35 => ("SecretBuyersModel", "chainOf", "[I", true)
  | 36 => ("SecretBuyersModel", "opens", "[I", true)
  | 37 => ("SecretBuyersModel", "closes", "[I", true)
  | 38 => ("SecretBuyersModel", "records", "[Z", true)
  | 39 => ("SecretBuyersModel", "buyers", "I", false)
  | 40 => ("SecretBuyersModel", "homeX", "[I", true)
  | 41 => ("SecretBuyersModel", "homeY", "[I", true)
  | 42 => ("SecretBuyersModel", "pace", "I", false)
  | 43 => ("SecretBuyersModel", "fee", "I", false)
  | 44 => ("SecretBuyersModel", "spread", "I", false)
  | 45 => ("SecretBuyersModel", "restDays", "I", false)
  | 46 => ("SecretBuyersModel", "reach", "I", false)
  | 47 => ("SecretBuyersModel", "visits", "I", false)
  | 48 => ("SecretBuyersModel", "shopOf", "[I", true)
  | 49 => ("SecretBuyersModel", "buyerOf", "[I", true)
  | 50 => ("SecretBuyersModel", "dayOf", "[I", true)
  | 51 => ("SecretBuyersModel", "minuteOf", "[I", true)
  | 52 => ("SecretBuyersModel", "manyOf", "[I", true)
  | 53 => ("SecretBuyersModel", "formOf", "[I", true)
  | 54 => ("SecretBuyersModel", "receiptOf", "[I", true)
  | 55 => ("SecretBuyersModel", "toldOn", "[I", true)
  | 56 => ("SecretBuyersModel", "appeals", "I", false)
  | 57 => ("SecretBuyersModel", "appealOf", "[I", true)
  | 58 => ("SecretBuyersModel", "appealItem", "[I", true)
  | 59 => ("SecretBuyersModel", "appealOn", "[I", true)
  | 60 => ("SecretBuyersModel", "seenMany", "I", false)
  | 61 => ("SecretBuyersModel", "line", "[I", true)
  | 62 => ("SecretBuyersModel", "score", "[I", true)
  | 63 => ("SecretBuyersModel", "bonus", "[I", true)
  | 64 => ("SecretBuyersModel", "state", "[I", true)
  | 65 => ("SecretBuyersModel", "these", "I", false)
  | 66 => ("SecretBuyersModel", "thisOne", "[I", true)
  | 67 => ("SecretBuyersModel", "quarrels", "[Z", true)
  | 68 => ("SecretBuyersModel", "fewest", "I", false)
  | 69 => ("SecretBuyersModel", "firstSet", "I", false)
  | 70 => ("SecretBuyersModel", "fewestAll", "I", false)
  | 71 => ("SecretBuyersModel", "leans", "[I", true)
  | 72 => ("SecretBuyersModel", "met", "[I", true)
  | 73 => ("SecretBuyersModel", "meanOf", "[I", true)
  | 74 => ("SecretBuyersModel", "countOf", "[I", true)
  | 75 => ("SecretBuyersModel", "rowTo", "[I", true)
  | 76 => ("SecretBuyersModel", "power", "[I", true)
  | 77 => ("SecretBuyersModel", "least", "[I", true)
  | 78 => ("SecretBuyersModel", "givenShop", "[I", true)
  | 79 => ("SecretBuyersModel", "givenBuyer", "[I", true)
  | _ => ("SecretBuyersModel", "goes", "[I", true)
def tyX4 : Nat → FieldType := fun k => match k with
  | 0 => .int
  | 1 => .array .int
  | 2 => .int
  | 3 => .int
  | 4 => .array .int
  | 5 => .array .int
  | 6 => .array .long
  | 7 => .int
  | 8 => .int
  | 9 => .array .long
  | 10 => .int
  | 11 => .array .int
  | 12 => .array .int
  | 13 => .array .int
  | 14 => .array .int
  | 15 => .array .int
  | 16 => .array .int
  | 17 => .array .int
  | 18 => .array .int
  | 19 => .int
  | 20 => .array .long
  | 21 => .int
  | 22 => .array .int
  | 23 => .array .int
  | 24 => .array .int
  | 25 => .int
  | 26 => .array .int
  | 27 => .array .int
  | 28 => .int
  | 29 => .int
  | 30 => .int
  | 31 => .int
  | 32 => .int
  | 33 => .array .int
  | 34 => .array .int
  | 35 => .array .int
  | 36 => .array .int
  | 37 => .array .int
  | 38 => .array .boolean
  | 39 => .int
  | 40 => .array .int
  | 41 => .array .int
  | 42 => .int
  | 43 => .int
  | 44 => .int
  | 45 => .int
  | 46 => .int
  | 47 => .int
  | 48 => .array .int
  | 49 => .array .int
  | 50 => .array .int
  | 51 => .array .int
  | 52 => .array .int
  | 53 => .array .int
  | 54 => .array .int
  | 55 => .array .int
  | 56 => .int
  | 57 => .array .int
  | 58 => .array .int
  | 59 => .array .int
  | 60 => .int
  | 61 => .array .int
  | 62 => .array .int
  | 63 => .array .int
  | 64 => .array .int
  | 65 => .int
  | 66 => .array .int
  | 67 => .array .boolean
  | 68 => .int
  | 69 => .int
  | 70 => .int
  | 71 => .array .int
  | 72 => .array .int
  | 73 => .array .int
  | 74 => .array .int
  | 75 => .array .int
  | 76 => .array .int
  | 77 => .array .int
  | 78 => .array .int
  | 79 => .array .int
  | _ => .array .int
abbrev wsX40 : List Cond := u_ws RX4 TX4 81
set_option maxRecDepth 100000 in
theorem nmX4 : ∀ a, a < 81 → ∀ b, b < 81 → a ≠ b → (TX4 a).2.1 ≠ (TX4 b).2.1 := by decide +kernel
set_option maxRecDepth 100000 in
theorem tyX4_ok : ∀ k, k < 81 → parseFieldDescriptor (TX4 k).2.2.1 = some (tyX4 k) := by decide +kernel
abbrev cX4_thrown : ByteArray := prog_21_method_1_code
def yX4_thrown : MethodName := ⟨RX4, "thrown", "()I"⟩
theorem dX4_thrown_0 : decode cX4_thrown 0 = .ok (.aload_n 0, 1) := by decide +kernel
theorem dX4_thrown_1 : decode cX4_thrown 1 = .ok (.getfield 1, 3) := by decide +kernel
theorem dX4_thrown_4 : decode cX4_thrown 4 = .ok (.ireturn, 1) := by decide +kernel
abbrev cX4_feed : ByteArray := prog_21_method_2_code
def yX4_feed : MethodName := ⟨RX4, "feed", "(JJJ)I"⟩
def dkwX4_feed_1 : List UInt8 := [180, 0, 11, 172]
abbrev dktX4_feed_1 : List UInt8 := dkwX4_feed_1 ++ []
def dkwX4_feed_0 : List UInt8 := [42, 3, 181, 0, 1, 42, 31, 182, 0, 7, 42, 33, 182, 0, 7, 42, 22, 5, 182, 0, 7, 42]
abbrev dktX4_feed_0 : List UInt8 := dkwX4_feed_0 ++ dktX4_feed_1
theorem dksX4_feed_0 : cX4_feed.data.toList.drop 0 = dktX4_feed_0 := by decide +kernel
theorem dksX4_feed_1 : cX4_feed.data.toList.drop 22 = dktX4_feed_1 := dk_seg dksX4_feed_0 22 rfl rfl
theorem dX4_feed_0 : decode cX4_feed 0 = .ok (.aload_n 0, 1) := dk_42 (dk_at dksX4_feed_0 0 rfl rfl)
theorem dX4_feed_1 : decode cX4_feed 1 = .ok (.iconst 0, 1) := dk_3 (dk_at dksX4_feed_0 1 rfl rfl)
theorem dX4_feed_2 : decode cX4_feed 2 = .ok (.putfield 1, 3) := dk_181 0 1 (dk_at dksX4_feed_0 2 rfl rfl)
theorem dX4_feed_5 : decode cX4_feed 5 = .ok (.aload_n 0, 1) := dk_42 (dk_at dksX4_feed_0 5 rfl rfl)
theorem dX4_feed_6 : decode cX4_feed 6 = .ok (.lload_n 1, 1) := dk_31 (dk_at dksX4_feed_0 6 rfl rfl)
theorem dX4_feed_7 : decode cX4_feed 7 = .ok (.invokevirtual 7, 3) := dk_182 0 7 (dk_at dksX4_feed_0 7 rfl rfl)
theorem dX4_feed_10 : decode cX4_feed 10 = .ok (.aload_n 0, 1) := dk_42 (dk_at dksX4_feed_0 10 rfl rfl)
theorem dX4_feed_11 : decode cX4_feed 11 = .ok (.lload_n 3, 1) := dk_33 (dk_at dksX4_feed_0 11 rfl rfl)
theorem dX4_feed_12 : decode cX4_feed 12 = .ok (.invokevirtual 7, 3) := dk_182 0 7 (dk_at dksX4_feed_0 12 rfl rfl)
theorem dX4_feed_15 : decode cX4_feed 15 = .ok (.aload_n 0, 1) := dk_42 (dk_at dksX4_feed_0 15 rfl rfl)
theorem dX4_feed_16 : decode cX4_feed 16 = .ok (.lload 5, 2) := dk_22 5 (dk_at dksX4_feed_0 16 rfl rfl)
theorem dX4_feed_18 : decode cX4_feed 18 = .ok (.invokevirtual 7, 3) := dk_182 0 7 (dk_at dksX4_feed_0 18 rfl rfl)
theorem dX4_feed_21 : decode cX4_feed 21 = .ok (.aload_n 0, 1) := dk_42 (dk_at dksX4_feed_0 21 rfl rfl)
theorem dX4_feed_22 : decode cX4_feed 22 = .ok (.getfield 11, 3) := dk_180 0 11 (dk_at dksX4_feed_1 0 rfl rfl)
theorem dX4_feed_25 : decode cX4_feed 25 = .ok (.ireturn, 1) := dk_172 (dk_at dksX4_feed_1 3 rfl rfl)
abbrev cX4_lay : ByteArray := prog_21_method_3_code
def yX4_lay : MethodName := ⟨RX4, "lay", "(J)V"⟩
def dkwX4_lay_3 : List UInt8 := [167, 255, 187, 177]
abbrev dktX4_lay_3 : List UInt8 := dkwX4_lay_3 ++ []
def dkwX4_lay_2 : List UInt8 := [42, 180, 0, 14, 42, 180, 0, 11, 21, 4, 79, 42, 89, 180, 0, 11, 4, 96, 181, 0, 11, 132, 3, 248]
abbrev dktX4_lay_2 : List UInt8 := dkwX4_lay_2 ++ dktX4_lay_3
def dkwX4_lay_1 : List UInt8 := [21, 4, 16, 32, 161, 0, 41, 21, 4, 16, 126, 163, 0, 34, 42, 180, 0, 11, 17, 3, 232, 162, 0, 24]
abbrev dktX4_lay_1 : List UInt8 := dkwX4_lay_1 ++ dktX4_lay_2
def dkwX4_lay_0 : List UInt8 := [16, 56, 62, 29, 155, 0, 71, 31, 29, 123, 136, 17, 0, 255, 126, 54, 4, 21, 4, 16, 10, 159, 0, 17]
abbrev dktX4_lay_0 : List UInt8 := dkwX4_lay_0 ++ dktX4_lay_1
theorem dksX4_lay_0 : cX4_lay.data.toList.drop 0 = dktX4_lay_0 := by decide +kernel
theorem dksX4_lay_1 : cX4_lay.data.toList.drop 24 = dktX4_lay_1 := dk_seg dksX4_lay_0 24 rfl rfl
theorem dksX4_lay_2 : cX4_lay.data.toList.drop 48 = dktX4_lay_2 := dk_seg dksX4_lay_1 24 rfl rfl
theorem dksX4_lay_3 : cX4_lay.data.toList.drop 72 = dktX4_lay_3 := dk_seg dksX4_lay_2 24 rfl rfl
theorem dX4_lay_0 : decode cX4_lay 0 = .ok (.bipush 56, 2) := dk_16 56 (dk_at dksX4_lay_0 0 rfl rfl)
theorem dX4_lay_2 : decode cX4_lay 2 = .ok (.istore_n 3, 1) := dk_62 (dk_at dksX4_lay_0 2 rfl rfl)
theorem dX4_lay_3 : decode cX4_lay 3 = .ok (.iload_n 3, 1) := dk_29 (dk_at dksX4_lay_0 3 rfl rfl)
theorem dX4_lay_4 : decode cX4_lay 4 = .ok (.ifCond .lt 71, 3) := dk_155 0 71 (dk_at dksX4_lay_0 4 rfl rfl)
theorem dX4_lay_7 : decode cX4_lay 7 = .ok (.lload_n 1, 1) := dk_31 (dk_at dksX4_lay_0 7 rfl rfl)
theorem dX4_lay_8 : decode cX4_lay 8 = .ok (.iload_n 3, 1) := dk_29 (dk_at dksX4_lay_0 8 rfl rfl)
theorem dX4_lay_9 : decode cX4_lay 9 = .ok (.lshr, 1) := dk_123 (dk_at dksX4_lay_0 9 rfl rfl)
theorem dX4_lay_10 : decode cX4_lay 10 = .ok (.l2i, 1) := dk_136 (dk_at dksX4_lay_0 10 rfl rfl)
theorem dX4_lay_11 : decode cX4_lay 11 = .ok (.sipush 255, 3) := dk_17 0 255 (dk_at dksX4_lay_0 11 rfl rfl)
theorem dX4_lay_14 : decode cX4_lay 14 = .ok (.iand, 1) := dk_126 (dk_at dksX4_lay_0 14 rfl rfl)
theorem dX4_lay_15 : decode cX4_lay 15 = .ok (.istore 4, 2) := dk_54 4 (dk_at dksX4_lay_0 15 rfl rfl)
theorem dX4_lay_17 : decode cX4_lay 17 = .ok (.iload 4, 2) := dk_21 4 (dk_at dksX4_lay_0 17 rfl rfl)
theorem dX4_lay_19 : decode cX4_lay 19 = .ok (.bipush 10, 2) := dk_16 10 (dk_at dksX4_lay_0 19 rfl rfl)
theorem dX4_lay_21 : decode cX4_lay 21 = .ok (.if_icmp .eq 17, 3) := dk_159 0 17 (dk_at dksX4_lay_0 21 rfl rfl)
theorem dX4_lay_24 : decode cX4_lay 24 = .ok (.iload 4, 2) := dk_21 4 (dk_at dksX4_lay_1 0 rfl rfl)
theorem dX4_lay_26 : decode cX4_lay 26 = .ok (.bipush 32, 2) := dk_16 32 (dk_at dksX4_lay_1 2 rfl rfl)
theorem dX4_lay_28 : decode cX4_lay 28 = .ok (.if_icmp .lt 41, 3) := dk_161 0 41 (dk_at dksX4_lay_1 4 rfl rfl)
theorem dX4_lay_31 : decode cX4_lay 31 = .ok (.iload 4, 2) := dk_21 4 (dk_at dksX4_lay_1 7 rfl rfl)
theorem dX4_lay_33 : decode cX4_lay 33 = .ok (.bipush 126, 2) := dk_16 126 (dk_at dksX4_lay_1 9 rfl rfl)
theorem dX4_lay_35 : decode cX4_lay 35 = .ok (.if_icmp .gt 34, 3) := dk_163 0 34 (dk_at dksX4_lay_1 11 rfl rfl)
theorem dX4_lay_38 : decode cX4_lay 38 = .ok (.aload_n 0, 1) := dk_42 (dk_at dksX4_lay_1 14 rfl rfl)
theorem dX4_lay_39 : decode cX4_lay 39 = .ok (.getfield 11, 3) := dk_180 0 11 (dk_at dksX4_lay_1 15 rfl rfl)
theorem dX4_lay_42 : decode cX4_lay 42 = .ok (.sipush 1000, 3) := dk_17 3 232 (dk_at dksX4_lay_1 18 rfl rfl)
theorem dX4_lay_45 : decode cX4_lay 45 = .ok (.if_icmp .ge 24, 3) := dk_162 0 24 (dk_at dksX4_lay_1 21 rfl rfl)
theorem dX4_lay_48 : decode cX4_lay 48 = .ok (.aload_n 0, 1) := dk_42 (dk_at dksX4_lay_2 0 rfl rfl)
theorem dX4_lay_49 : decode cX4_lay 49 = .ok (.getfield 14, 3) := dk_180 0 14 (dk_at dksX4_lay_2 1 rfl rfl)
theorem dX4_lay_52 : decode cX4_lay 52 = .ok (.aload_n 0, 1) := dk_42 (dk_at dksX4_lay_2 4 rfl rfl)
theorem dX4_lay_53 : decode cX4_lay 53 = .ok (.getfield 11, 3) := dk_180 0 11 (dk_at dksX4_lay_2 5 rfl rfl)
theorem dX4_lay_56 : decode cX4_lay 56 = .ok (.iload 4, 2) := dk_21 4 (dk_at dksX4_lay_2 8 rfl rfl)
theorem dX4_lay_58 : decode cX4_lay 58 = .ok (.iastore, 1) := dk_79 (dk_at dksX4_lay_2 10 rfl rfl)
theorem dX4_lay_59 : decode cX4_lay 59 = .ok (.aload_n 0, 1) := dk_42 (dk_at dksX4_lay_2 11 rfl rfl)
theorem dX4_lay_60 : decode cX4_lay 60 = .ok (.dup, 1) := dk_89 (dk_at dksX4_lay_2 12 rfl rfl)
theorem dX4_lay_61 : decode cX4_lay 61 = .ok (.getfield 11, 3) := dk_180 0 11 (dk_at dksX4_lay_2 13 rfl rfl)
theorem dX4_lay_64 : decode cX4_lay 64 = .ok (.iconst 1, 1) := dk_4 (dk_at dksX4_lay_2 16 rfl rfl)
theorem dX4_lay_65 : decode cX4_lay 65 = .ok (.iadd, 1) := dk_96 (dk_at dksX4_lay_2 17 rfl rfl)
theorem dX4_lay_66 : decode cX4_lay 66 = .ok (.putfield 11, 3) := dk_181 0 11 (dk_at dksX4_lay_2 18 rfl rfl)
theorem dX4_lay_69 : decode cX4_lay 69 = .ok (.iinc 3 (-8), 3) := dk_132 3 248 (dk_at dksX4_lay_2 21 rfl rfl)
theorem dX4_lay_72 : decode cX4_lay 72 = .ok (.goto (-69), 3) := dk_167 255 187 (dk_at dksX4_lay_3 0 rfl rfl)
theorem dX4_lay_75 : decode cX4_lay 75 = .ok (.return_, 1) := dk_177 (dk_at dksX4_lay_3 3 rfl rfl)
abbrev cX4_init : ByteArray := prog_21_method_4_code
def yX4_init : MethodName := ⟨RX4, "<init>", "()V"⟩
def dkwX4_init_26 : List UInt8 := [181, 0, 228, 42, 16, 60, 181, 0, 231, 177]
abbrev dktX4_init_26 : List UInt8 := dkwX4_init_26 ++ []
def dkwX4_init_25 : List UInt8 := [2, 181, 0, 216, 42, 8, 181, 0, 219, 42, 16, 20, 181, 0, 222, 42, 16, 60, 181, 0, 225, 42, 16, 30]
abbrev dktX4_init_25 : List UInt8 := dkwX4_init_25 ++ dktX4_init_26
def dkwX4_init_24 : List UInt8 := [16, 8, 188, 10, 181, 0, 207, 42, 16, 8, 188, 10, 181, 0, 210, 42, 16, 64, 188, 10, 181, 0, 213, 42]
abbrev dktX4_init_24 : List UInt8 := dkwX4_init_24 ++ dktX4_init_25
def dkwX4_init_23 : List UInt8 := [17, 2, 217, 79, 89, 16, 7, 17, 8, 139, 79, 181, 0, 200, 42, 18, 203, 188, 10, 181, 0, 204, 42]
abbrev dktX4_init_23 : List UInt8 := dkwX4_init_23 ++ dktX4_init_24
def dkwX4_init_22 : List UInt8 := [89, 5, 16, 9, 79, 89, 6, 16, 27, 79, 89, 7, 16, 81, 79, 89, 8, 17, 0, 243, 79, 89, 16, 6]
abbrev dktX4_init_22 : List UInt8 := dkwX4_init_22 ++ dktX4_init_23
def dkwX4_init_21 : List UInt8 := [181, 0, 194, 42, 16, 20, 188, 10, 181, 0, 197, 42, 16, 8, 188, 10, 89, 3, 4, 79, 89, 4, 6, 79]
abbrev dktX4_init_21 : List UInt8 := dkwX4_init_21 ++ dktX4_init_22
def dkwX4_init_20 : List UInt8 := [181, 0, 185, 42, 16, 8, 188, 10, 181, 0, 188, 42, 16, 20, 188, 10, 181, 0, 191, 42, 16, 20, 188, 10]
abbrev dktX4_init_20 : List UInt8 := dkwX4_init_20 ++ dktX4_init_21
def dkwX4_init_19 : List UInt8 := [42, 16, 12, 188, 10, 181, 0, 179, 42, 17, 0, 144, 188, 4, 181, 0, 182, 42, 16, 8, 188, 10]
abbrev dktX4_init_19 : List UInt8 := dkwX4_init_19 ++ dktX4_init_20
def dkwX4_init_18 : List UInt8 := [42, 16, 120, 188, 10, 181, 0, 170, 42, 16, 120, 188, 10, 181, 0, 173, 42, 16, 120, 188, 10, 181, 0, 176]
abbrev dktX4_init_18 : List UInt8 := dkwX4_init_18 ++ dktX4_init_19
def dkwX4_init_17 : List UInt8 := [42, 16, 60, 188, 10, 181, 0, 161, 42, 16, 60, 188, 10, 181, 0, 164, 42, 16, 120, 188, 10, 181, 0, 167]
abbrev dktX4_init_17 : List UInt8 := dkwX4_init_17 ++ dktX4_init_18
def dkwX4_init_16 : List UInt8 := [42, 16, 120, 188, 10, 181, 0, 152, 42, 16, 120, 188, 10, 181, 0, 155, 42, 16, 60, 188, 10, 181, 0, 158]
abbrev dktX4_init_16 : List UInt8 := dkwX4_init_16 ++ dktX4_init_17
def dkwX4_init_15 : List UInt8 := [42, 16, 120, 188, 10, 181, 0, 143, 42, 16, 120, 188, 10, 181, 0, 146, 42, 16, 120, 188, 10, 181, 0, 149]
abbrev dktX4_init_15 : List UInt8 := dkwX4_init_15 ++ dktX4_init_16
def dkwX4_init_14 : List UInt8 := [42, 16, 120, 188, 10, 181, 0, 134, 42, 16, 120, 188, 10, 181, 0, 137, 42, 16, 120, 188, 10, 181, 0, 140]
abbrev dktX4_init_14 : List UInt8 := dkwX4_init_14 ++ dktX4_init_15
def dkwX4_init_13 : List UInt8 := [42, 16, 20, 188, 4, 181, 0, 124, 42, 16, 8, 188, 10, 181, 0, 128, 42, 16, 8, 188, 10, 181, 0, 131]
abbrev dktX4_init_13 : List UInt8 := dkwX4_init_13 ++ dktX4_init_14
def dkwX4_init_12 : List UInt8 := [42, 16, 20, 188, 10, 181, 0, 115, 42, 16, 20, 188, 10, 181, 0, 118, 42, 16, 20, 188, 10, 181, 0, 121]
abbrev dktX4_init_12 : List UInt8 := dkwX4_init_12 ++ dktX4_init_13
def dkwX4_init_11 : List UInt8 := [17, 4, 176, 188, 10, 181, 0, 106, 42, 16, 20, 188, 10, 181, 0, 109, 42, 16, 20, 188, 10, 181, 0, 112]
abbrev dktX4_init_11 : List UInt8 := dkwX4_init_11 ++ dktX4_init_12
def dkwX4_init_10 : List UInt8 := [188, 10, 181, 0, 97, 42, 16, 6, 188, 10, 181, 0, 100, 42, 16, 8, 188, 10, 181, 0, 103, 42]
abbrev dktX4_init_10 : List UInt8 := dkwX4_init_10 ++ dktX4_init_11
def dkwX4_init_9 : List UInt8 := [181, 0, 88, 42, 16, 8, 188, 11, 181, 0, 91, 42, 17, 79, 176, 188, 10, 181, 0, 94, 42, 17, 79, 176]
abbrev dktX4_init_9 : List UInt8 := dkwX4_init_9 ++ dktX4_init_10
def dkwX4_init_8 : List UInt8 := [17, 1, 16, 188, 10, 181, 0, 82, 42, 17, 1, 16, 188, 10, 181, 0, 85, 42, 17, 1, 16, 188, 10]
abbrev dktX4_init_8 : List UInt8 := dkwX4_init_8 ++ dktX4_init_9
def dkwX4_init_7 : List UInt8 := [188, 10, 181, 0, 73, 42, 16, 17, 188, 10, 181, 0, 76, 42, 17, 1, 16, 188, 10, 181, 0, 79, 42]
abbrev dktX4_init_7 : List UInt8 := dkwX4_init_7 ++ dktX4_init_8
def dkwX4_init_6 : List UInt8 := [80, 181, 0, 64, 42, 16, 17, 188, 10, 181, 0, 67, 42, 16, 17, 188, 10, 181, 0, 70, 42, 16, 17]
abbrev dktX4_init_6 : List UInt8 := dkwX4_init_6 ++ dktX4_init_7
def dkwX4_init_5 : List UInt8 := [20, 0, 56, 80, 89, 16, 12, 20, 0, 58, 80, 89, 16, 13, 20, 0, 60, 80, 89, 16, 14, 20, 0, 62]
abbrev dktX4_init_5 : List UInt8 := dkwX4_init_5 ++ dktX4_init_6
def dkwX4_init_4 : List UInt8 := [89, 16, 8, 20, 0, 50, 80, 89, 16, 9, 20, 0, 52, 80, 89, 16, 10, 20, 0, 54, 80, 89, 16, 11]
abbrev dktX4_init_4 : List UInt8 := dkwX4_init_4 ++ dktX4_init_5
def dkwX4_init_3 : List UInt8 := [20, 0, 42, 80, 89, 8, 20, 0, 44, 80, 89, 16, 6, 20, 0, 46, 80, 89, 16, 7, 20, 0, 48, 80]
abbrev dktX4_init_3 : List UInt8 := dkwX4_init_3 ++ dktX4_init_4
def dkwX4_init_2 : List UInt8 := [20, 0, 34, 80, 89, 4, 20, 0, 36, 80, 89, 5, 20, 0, 38, 80, 89, 6, 20, 0, 40, 80, 89, 7]
abbrev dktX4_init_2 : List UInt8 := dkwX4_init_2 ++ dktX4_init_3
def dkwX4_init_1 : List UInt8 := [17, 3, 234, 188, 10, 181, 0, 27, 42, 17, 3, 234, 188, 11, 181, 0, 30, 42, 16, 15, 188, 11, 89, 3]
abbrev dktX4_init_1 : List UInt8 := dkwX4_init_1 ++ dktX4_init_2
def dkwX4_init_0 : List UInt8 := [42, 183, 0, 18, 42, 17, 3, 232, 188, 10, 181, 0, 14, 42, 17, 3, 234, 188, 10, 181, 0, 24, 42]
abbrev dktX4_init_0 : List UInt8 := dkwX4_init_0 ++ dktX4_init_1
theorem dksX4_init_0 : cX4_init.data.toList.drop 0 = dktX4_init_0 := by decide +kernel
theorem dksX4_init_1 : cX4_init.data.toList.drop 23 = dktX4_init_1 := dk_seg dksX4_init_0 23 rfl rfl
theorem dksX4_init_2 : cX4_init.data.toList.drop 47 = dktX4_init_2 := dk_seg dksX4_init_1 24 rfl rfl
theorem dksX4_init_3 : cX4_init.data.toList.drop 71 = dktX4_init_3 := dk_seg dksX4_init_2 24 rfl rfl
theorem dksX4_init_4 : cX4_init.data.toList.drop 95 = dktX4_init_4 := dk_seg dksX4_init_3 24 rfl rfl
theorem dksX4_init_5 : cX4_init.data.toList.drop 119 = dktX4_init_5 := dk_seg dksX4_init_4 24 rfl rfl
theorem dksX4_init_6 : cX4_init.data.toList.drop 143 = dktX4_init_6 := dk_seg dksX4_init_5 24 rfl rfl
theorem dksX4_init_7 : cX4_init.data.toList.drop 166 = dktX4_init_7 := dk_seg dksX4_init_6 23 rfl rfl
theorem dksX4_init_8 : cX4_init.data.toList.drop 189 = dktX4_init_8 := dk_seg dksX4_init_7 23 rfl rfl
theorem dksX4_init_9 : cX4_init.data.toList.drop 212 = dktX4_init_9 := dk_seg dksX4_init_8 23 rfl rfl
theorem dksX4_init_10 : cX4_init.data.toList.drop 236 = dktX4_init_10 := dk_seg dksX4_init_9 24 rfl rfl
theorem dksX4_init_11 : cX4_init.data.toList.drop 258 = dktX4_init_11 := dk_seg dksX4_init_10 22 rfl rfl
theorem dksX4_init_12 : cX4_init.data.toList.drop 282 = dktX4_init_12 := dk_seg dksX4_init_11 24 rfl rfl
theorem dksX4_init_13 : cX4_init.data.toList.drop 306 = dktX4_init_13 := dk_seg dksX4_init_12 24 rfl rfl
theorem dksX4_init_14 : cX4_init.data.toList.drop 330 = dktX4_init_14 := dk_seg dksX4_init_13 24 rfl rfl
theorem dksX4_init_15 : cX4_init.data.toList.drop 354 = dktX4_init_15 := dk_seg dksX4_init_14 24 rfl rfl
theorem dksX4_init_16 : cX4_init.data.toList.drop 378 = dktX4_init_16 := dk_seg dksX4_init_15 24 rfl rfl
theorem dksX4_init_17 : cX4_init.data.toList.drop 402 = dktX4_init_17 := dk_seg dksX4_init_16 24 rfl rfl
theorem dksX4_init_18 : cX4_init.data.toList.drop 426 = dktX4_init_18 := dk_seg dksX4_init_17 24 rfl rfl
theorem dksX4_init_19 : cX4_init.data.toList.drop 450 = dktX4_init_19 := dk_seg dksX4_init_18 24 rfl rfl
theorem dksX4_init_20 : cX4_init.data.toList.drop 472 = dktX4_init_20 := dk_seg dksX4_init_19 22 rfl rfl
theorem dksX4_init_21 : cX4_init.data.toList.drop 496 = dktX4_init_21 := dk_seg dksX4_init_20 24 rfl rfl
theorem dksX4_init_22 : cX4_init.data.toList.drop 520 = dktX4_init_22 := dk_seg dksX4_init_21 24 rfl rfl
theorem dksX4_init_23 : cX4_init.data.toList.drop 544 = dktX4_init_23 := dk_seg dksX4_init_22 24 rfl rfl
theorem dksX4_init_24 : cX4_init.data.toList.drop 567 = dktX4_init_24 := dk_seg dksX4_init_23 23 rfl rfl
theorem dksX4_init_25 : cX4_init.data.toList.drop 591 = dktX4_init_25 := dk_seg dksX4_init_24 24 rfl rfl
theorem dksX4_init_26 : cX4_init.data.toList.drop 615 = dktX4_init_26 := dk_seg dksX4_init_25 24 rfl rfl
theorem dX4_init_0 : decode cX4_init 0 = .ok (.aload_n 0, 1) := dk_42 (dk_at dksX4_init_0 0 rfl rfl)
theorem dX4_init_1 : decode cX4_init 1 = .ok (.invokespecial 18, 3) := dk_183 0 18 (dk_at dksX4_init_0 1 rfl rfl)
theorem dX4_init_4 : decode cX4_init 4 = .ok (.aload_n 0, 1) := dk_42 (dk_at dksX4_init_0 4 rfl rfl)
theorem dX4_init_5 : decode cX4_init 5 = .ok (.sipush 1000, 3) := dk_17 3 232 (dk_at dksX4_init_0 5 rfl rfl)
theorem dX4_init_8 : decode cX4_init 8 = .ok (.newarray .int, 2) := dk_188_10 (dk_at dksX4_init_0 8 rfl rfl)
theorem dX4_init_10 : decode cX4_init 10 = .ok (.putfield 14, 3) := dk_181 0 14 (dk_at dksX4_init_0 10 rfl rfl)
theorem dX4_init_13 : decode cX4_init 13 = .ok (.aload_n 0, 1) := dk_42 (dk_at dksX4_init_0 13 rfl rfl)
theorem dX4_init_14 : decode cX4_init 14 = .ok (.sipush 1002, 3) := dk_17 3 234 (dk_at dksX4_init_0 14 rfl rfl)
theorem dX4_init_17 : decode cX4_init 17 = .ok (.newarray .int, 2) := dk_188_10 (dk_at dksX4_init_0 17 rfl rfl)
theorem dX4_init_19 : decode cX4_init 19 = .ok (.putfield 24, 3) := dk_181 0 24 (dk_at dksX4_init_0 19 rfl rfl)
theorem dX4_init_22 : decode cX4_init 22 = .ok (.aload_n 0, 1) := dk_42 (dk_at dksX4_init_0 22 rfl rfl)
theorem dX4_init_23 : decode cX4_init 23 = .ok (.sipush 1002, 3) := dk_17 3 234 (dk_at dksX4_init_1 0 rfl rfl)
theorem dX4_init_26 : decode cX4_init 26 = .ok (.newarray .int, 2) := dk_188_10 (dk_at dksX4_init_1 3 rfl rfl)
theorem dX4_init_28 : decode cX4_init 28 = .ok (.putfield 27, 3) := dk_181 0 27 (dk_at dksX4_init_1 5 rfl rfl)
theorem dX4_init_31 : decode cX4_init 31 = .ok (.aload_n 0, 1) := dk_42 (dk_at dksX4_init_1 8 rfl rfl)
theorem dX4_init_32 : decode cX4_init 32 = .ok (.sipush 1002, 3) := dk_17 3 234 (dk_at dksX4_init_1 9 rfl rfl)
theorem dX4_init_35 : decode cX4_init 35 = .ok (.newarray .long, 2) := dk_188_11 (dk_at dksX4_init_1 12 rfl rfl)
theorem dX4_init_37 : decode cX4_init 37 = .ok (.putfield 30, 3) := dk_181 0 30 (dk_at dksX4_init_1 14 rfl rfl)
theorem dX4_init_40 : decode cX4_init 40 = .ok (.aload_n 0, 1) := dk_42 (dk_at dksX4_init_1 17 rfl rfl)
theorem dX4_init_41 : decode cX4_init 41 = .ok (.bipush 15, 2) := dk_16 15 (dk_at dksX4_init_1 18 rfl rfl)
theorem dX4_init_43 : decode cX4_init 43 = .ok (.newarray .long, 2) := dk_188_11 (dk_at dksX4_init_1 20 rfl rfl)
theorem dX4_init_45 : decode cX4_init 45 = .ok (.dup, 1) := dk_89 (dk_at dksX4_init_1 22 rfl rfl)
theorem dX4_init_46 : decode cX4_init 46 = .ok (.iconst 0, 1) := dk_3 (dk_at dksX4_init_1 23 rfl rfl)
theorem dX4_init_47 : decode cX4_init 47 = .ok (.ldc2_w 34, 3) := dk_20 0 34 (dk_at dksX4_init_2 0 rfl rfl)
theorem dX4_init_50 : decode cX4_init 50 = .ok (.lastore, 1) := dk_80 (dk_at dksX4_init_2 3 rfl rfl)
theorem dX4_init_51 : decode cX4_init 51 = .ok (.dup, 1) := dk_89 (dk_at dksX4_init_2 4 rfl rfl)
theorem dX4_init_52 : decode cX4_init 52 = .ok (.iconst 1, 1) := dk_4 (dk_at dksX4_init_2 5 rfl rfl)
theorem dX4_init_53 : decode cX4_init 53 = .ok (.ldc2_w 36, 3) := dk_20 0 36 (dk_at dksX4_init_2 6 rfl rfl)
theorem dX4_init_56 : decode cX4_init 56 = .ok (.lastore, 1) := dk_80 (dk_at dksX4_init_2 9 rfl rfl)
theorem dX4_init_57 : decode cX4_init 57 = .ok (.dup, 1) := dk_89 (dk_at dksX4_init_2 10 rfl rfl)
theorem dX4_init_58 : decode cX4_init 58 = .ok (.iconst 2, 1) := dk_5 (dk_at dksX4_init_2 11 rfl rfl)
theorem dX4_init_59 : decode cX4_init 59 = .ok (.ldc2_w 38, 3) := dk_20 0 38 (dk_at dksX4_init_2 12 rfl rfl)
theorem dX4_init_62 : decode cX4_init 62 = .ok (.lastore, 1) := dk_80 (dk_at dksX4_init_2 15 rfl rfl)
theorem dX4_init_63 : decode cX4_init 63 = .ok (.dup, 1) := dk_89 (dk_at dksX4_init_2 16 rfl rfl)
theorem dX4_init_64 : decode cX4_init 64 = .ok (.iconst 3, 1) := dk_6 (dk_at dksX4_init_2 17 rfl rfl)
theorem dX4_init_65 : decode cX4_init 65 = .ok (.ldc2_w 40, 3) := dk_20 0 40 (dk_at dksX4_init_2 18 rfl rfl)
theorem dX4_init_68 : decode cX4_init 68 = .ok (.lastore, 1) := dk_80 (dk_at dksX4_init_2 21 rfl rfl)
theorem dX4_init_69 : decode cX4_init 69 = .ok (.dup, 1) := dk_89 (dk_at dksX4_init_2 22 rfl rfl)
theorem dX4_init_70 : decode cX4_init 70 = .ok (.iconst 4, 1) := dk_7 (dk_at dksX4_init_2 23 rfl rfl)
theorem dX4_init_71 : decode cX4_init 71 = .ok (.ldc2_w 42, 3) := dk_20 0 42 (dk_at dksX4_init_3 0 rfl rfl)
theorem dX4_init_74 : decode cX4_init 74 = .ok (.lastore, 1) := dk_80 (dk_at dksX4_init_3 3 rfl rfl)
theorem dX4_init_75 : decode cX4_init 75 = .ok (.dup, 1) := dk_89 (dk_at dksX4_init_3 4 rfl rfl)
theorem dX4_init_76 : decode cX4_init 76 = .ok (.iconst 5, 1) := dk_8 (dk_at dksX4_init_3 5 rfl rfl)
theorem dX4_init_77 : decode cX4_init 77 = .ok (.ldc2_w 44, 3) := dk_20 0 44 (dk_at dksX4_init_3 6 rfl rfl)
theorem dX4_init_80 : decode cX4_init 80 = .ok (.lastore, 1) := dk_80 (dk_at dksX4_init_3 9 rfl rfl)
theorem dX4_init_81 : decode cX4_init 81 = .ok (.dup, 1) := dk_89 (dk_at dksX4_init_3 10 rfl rfl)
theorem dX4_init_82 : decode cX4_init 82 = .ok (.bipush 6, 2) := dk_16 6 (dk_at dksX4_init_3 11 rfl rfl)
theorem dX4_init_84 : decode cX4_init 84 = .ok (.ldc2_w 46, 3) := dk_20 0 46 (dk_at dksX4_init_3 13 rfl rfl)
theorem dX4_init_87 : decode cX4_init 87 = .ok (.lastore, 1) := dk_80 (dk_at dksX4_init_3 16 rfl rfl)
theorem dX4_init_88 : decode cX4_init 88 = .ok (.dup, 1) := dk_89 (dk_at dksX4_init_3 17 rfl rfl)
theorem dX4_init_89 : decode cX4_init 89 = .ok (.bipush 7, 2) := dk_16 7 (dk_at dksX4_init_3 18 rfl rfl)
theorem dX4_init_91 : decode cX4_init 91 = .ok (.ldc2_w 48, 3) := dk_20 0 48 (dk_at dksX4_init_3 20 rfl rfl)
theorem dX4_init_94 : decode cX4_init 94 = .ok (.lastore, 1) := dk_80 (dk_at dksX4_init_3 23 rfl rfl)
theorem dX4_init_95 : decode cX4_init 95 = .ok (.dup, 1) := dk_89 (dk_at dksX4_init_4 0 rfl rfl)
theorem dX4_init_96 : decode cX4_init 96 = .ok (.bipush 8, 2) := dk_16 8 (dk_at dksX4_init_4 1 rfl rfl)
theorem dX4_init_98 : decode cX4_init 98 = .ok (.ldc2_w 50, 3) := dk_20 0 50 (dk_at dksX4_init_4 3 rfl rfl)
theorem dX4_init_101 : decode cX4_init 101 = .ok (.lastore, 1) := dk_80 (dk_at dksX4_init_4 6 rfl rfl)
theorem dX4_init_102 : decode cX4_init 102 = .ok (.dup, 1) := dk_89 (dk_at dksX4_init_4 7 rfl rfl)
theorem dX4_init_103 : decode cX4_init 103 = .ok (.bipush 9, 2) := dk_16 9 (dk_at dksX4_init_4 8 rfl rfl)
theorem dX4_init_105 : decode cX4_init 105 = .ok (.ldc2_w 52, 3) := dk_20 0 52 (dk_at dksX4_init_4 10 rfl rfl)
theorem dX4_init_108 : decode cX4_init 108 = .ok (.lastore, 1) := dk_80 (dk_at dksX4_init_4 13 rfl rfl)
theorem dX4_init_109 : decode cX4_init 109 = .ok (.dup, 1) := dk_89 (dk_at dksX4_init_4 14 rfl rfl)
theorem dX4_init_110 : decode cX4_init 110 = .ok (.bipush 10, 2) := dk_16 10 (dk_at dksX4_init_4 15 rfl rfl)
theorem dX4_init_112 : decode cX4_init 112 = .ok (.ldc2_w 54, 3) := dk_20 0 54 (dk_at dksX4_init_4 17 rfl rfl)
theorem dX4_init_115 : decode cX4_init 115 = .ok (.lastore, 1) := dk_80 (dk_at dksX4_init_4 20 rfl rfl)
theorem dX4_init_116 : decode cX4_init 116 = .ok (.dup, 1) := dk_89 (dk_at dksX4_init_4 21 rfl rfl)
theorem dX4_init_117 : decode cX4_init 117 = .ok (.bipush 11, 2) := dk_16 11 (dk_at dksX4_init_4 22 rfl rfl)
theorem dX4_init_119 : decode cX4_init 119 = .ok (.ldc2_w 56, 3) := dk_20 0 56 (dk_at dksX4_init_5 0 rfl rfl)
theorem dX4_init_122 : decode cX4_init 122 = .ok (.lastore, 1) := dk_80 (dk_at dksX4_init_5 3 rfl rfl)
theorem dX4_init_123 : decode cX4_init 123 = .ok (.dup, 1) := dk_89 (dk_at dksX4_init_5 4 rfl rfl)
theorem dX4_init_124 : decode cX4_init 124 = .ok (.bipush 12, 2) := dk_16 12 (dk_at dksX4_init_5 5 rfl rfl)
theorem dX4_init_126 : decode cX4_init 126 = .ok (.ldc2_w 58, 3) := dk_20 0 58 (dk_at dksX4_init_5 7 rfl rfl)
theorem dX4_init_129 : decode cX4_init 129 = .ok (.lastore, 1) := dk_80 (dk_at dksX4_init_5 10 rfl rfl)
theorem dX4_init_130 : decode cX4_init 130 = .ok (.dup, 1) := dk_89 (dk_at dksX4_init_5 11 rfl rfl)
theorem dX4_init_131 : decode cX4_init 131 = .ok (.bipush 13, 2) := dk_16 13 (dk_at dksX4_init_5 12 rfl rfl)
theorem dX4_init_133 : decode cX4_init 133 = .ok (.ldc2_w 60, 3) := dk_20 0 60 (dk_at dksX4_init_5 14 rfl rfl)
theorem dX4_init_136 : decode cX4_init 136 = .ok (.lastore, 1) := dk_80 (dk_at dksX4_init_5 17 rfl rfl)
theorem dX4_init_137 : decode cX4_init 137 = .ok (.dup, 1) := dk_89 (dk_at dksX4_init_5 18 rfl rfl)
theorem dX4_init_138 : decode cX4_init 138 = .ok (.bipush 14, 2) := dk_16 14 (dk_at dksX4_init_5 19 rfl rfl)
theorem dX4_init_140 : decode cX4_init 140 = .ok (.ldc2_w 62, 3) := dk_20 0 62 (dk_at dksX4_init_5 21 rfl rfl)
theorem dX4_init_143 : decode cX4_init 143 = .ok (.lastore, 1) := dk_80 (dk_at dksX4_init_6 0 rfl rfl)
theorem dX4_init_144 : decode cX4_init 144 = .ok (.putfield 64, 3) := dk_181 0 64 (dk_at dksX4_init_6 1 rfl rfl)
theorem dX4_init_147 : decode cX4_init 147 = .ok (.aload_n 0, 1) := dk_42 (dk_at dksX4_init_6 4 rfl rfl)
theorem dX4_init_148 : decode cX4_init 148 = .ok (.bipush 17, 2) := dk_16 17 (dk_at dksX4_init_6 5 rfl rfl)
theorem dX4_init_150 : decode cX4_init 150 = .ok (.newarray .int, 2) := dk_188_10 (dk_at dksX4_init_6 7 rfl rfl)
theorem dX4_init_152 : decode cX4_init 152 = .ok (.putfield 67, 3) := dk_181 0 67 (dk_at dksX4_init_6 9 rfl rfl)
theorem dX4_init_155 : decode cX4_init 155 = .ok (.aload_n 0, 1) := dk_42 (dk_at dksX4_init_6 12 rfl rfl)
theorem dX4_init_156 : decode cX4_init 156 = .ok (.bipush 17, 2) := dk_16 17 (dk_at dksX4_init_6 13 rfl rfl)
theorem dX4_init_158 : decode cX4_init 158 = .ok (.newarray .int, 2) := dk_188_10 (dk_at dksX4_init_6 15 rfl rfl)
theorem dX4_init_160 : decode cX4_init 160 = .ok (.putfield 70, 3) := dk_181 0 70 (dk_at dksX4_init_6 17 rfl rfl)
theorem dX4_init_163 : decode cX4_init 163 = .ok (.aload_n 0, 1) := dk_42 (dk_at dksX4_init_6 20 rfl rfl)
theorem dX4_init_164 : decode cX4_init 164 = .ok (.bipush 17, 2) := dk_16 17 (dk_at dksX4_init_6 21 rfl rfl)
theorem dX4_init_166 : decode cX4_init 166 = .ok (.newarray .int, 2) := dk_188_10 (dk_at dksX4_init_7 0 rfl rfl)
theorem dX4_init_168 : decode cX4_init 168 = .ok (.putfield 73, 3) := dk_181 0 73 (dk_at dksX4_init_7 2 rfl rfl)
theorem dX4_init_171 : decode cX4_init 171 = .ok (.aload_n 0, 1) := dk_42 (dk_at dksX4_init_7 5 rfl rfl)
theorem dX4_init_172 : decode cX4_init 172 = .ok (.bipush 17, 2) := dk_16 17 (dk_at dksX4_init_7 6 rfl rfl)
theorem dX4_init_174 : decode cX4_init 174 = .ok (.newarray .int, 2) := dk_188_10 (dk_at dksX4_init_7 8 rfl rfl)
theorem dX4_init_176 : decode cX4_init 176 = .ok (.putfield 76, 3) := dk_181 0 76 (dk_at dksX4_init_7 10 rfl rfl)
theorem dX4_init_179 : decode cX4_init 179 = .ok (.aload_n 0, 1) := dk_42 (dk_at dksX4_init_7 13 rfl rfl)
theorem dX4_init_180 : decode cX4_init 180 = .ok (.sipush 272, 3) := dk_17 1 16 (dk_at dksX4_init_7 14 rfl rfl)
theorem dX4_init_183 : decode cX4_init 183 = .ok (.newarray .int, 2) := dk_188_10 (dk_at dksX4_init_7 17 rfl rfl)
theorem dX4_init_185 : decode cX4_init 185 = .ok (.putfield 79, 3) := dk_181 0 79 (dk_at dksX4_init_7 19 rfl rfl)
theorem dX4_init_188 : decode cX4_init 188 = .ok (.aload_n 0, 1) := dk_42 (dk_at dksX4_init_7 22 rfl rfl)
theorem dX4_init_189 : decode cX4_init 189 = .ok (.sipush 272, 3) := dk_17 1 16 (dk_at dksX4_init_8 0 rfl rfl)
theorem dX4_init_192 : decode cX4_init 192 = .ok (.newarray .int, 2) := dk_188_10 (dk_at dksX4_init_8 3 rfl rfl)
theorem dX4_init_194 : decode cX4_init 194 = .ok (.putfield 82, 3) := dk_181 0 82 (dk_at dksX4_init_8 5 rfl rfl)
theorem dX4_init_197 : decode cX4_init 197 = .ok (.aload_n 0, 1) := dk_42 (dk_at dksX4_init_8 8 rfl rfl)
theorem dX4_init_198 : decode cX4_init 198 = .ok (.sipush 272, 3) := dk_17 1 16 (dk_at dksX4_init_8 9 rfl rfl)
theorem dX4_init_201 : decode cX4_init 201 = .ok (.newarray .int, 2) := dk_188_10 (dk_at dksX4_init_8 12 rfl rfl)
theorem dX4_init_203 : decode cX4_init 203 = .ok (.putfield 85, 3) := dk_181 0 85 (dk_at dksX4_init_8 14 rfl rfl)
theorem dX4_init_206 : decode cX4_init 206 = .ok (.aload_n 0, 1) := dk_42 (dk_at dksX4_init_8 17 rfl rfl)
theorem dX4_init_207 : decode cX4_init 207 = .ok (.sipush 272, 3) := dk_17 1 16 (dk_at dksX4_init_8 18 rfl rfl)
theorem dX4_init_210 : decode cX4_init 210 = .ok (.newarray .int, 2) := dk_188_10 (dk_at dksX4_init_8 21 rfl rfl)
theorem dX4_init_212 : decode cX4_init 212 = .ok (.putfield 88, 3) := dk_181 0 88 (dk_at dksX4_init_9 0 rfl rfl)
theorem dX4_init_215 : decode cX4_init 215 = .ok (.aload_n 0, 1) := dk_42 (dk_at dksX4_init_9 3 rfl rfl)
theorem dX4_init_216 : decode cX4_init 216 = .ok (.bipush 8, 2) := dk_16 8 (dk_at dksX4_init_9 4 rfl rfl)
theorem dX4_init_218 : decode cX4_init 218 = .ok (.newarray .long, 2) := dk_188_11 (dk_at dksX4_init_9 6 rfl rfl)
theorem dX4_init_220 : decode cX4_init 220 = .ok (.putfield 91, 3) := dk_181 0 91 (dk_at dksX4_init_9 8 rfl rfl)
theorem dX4_init_223 : decode cX4_init 223 = .ok (.aload_n 0, 1) := dk_42 (dk_at dksX4_init_9 11 rfl rfl)
theorem dX4_init_224 : decode cX4_init 224 = .ok (.sipush 20400, 3) := dk_17 79 176 (dk_at dksX4_init_9 12 rfl rfl)
theorem dX4_init_227 : decode cX4_init 227 = .ok (.newarray .int, 2) := dk_188_10 (dk_at dksX4_init_9 15 rfl rfl)
theorem dX4_init_229 : decode cX4_init 229 = .ok (.putfield 94, 3) := dk_181 0 94 (dk_at dksX4_init_9 17 rfl rfl)
theorem dX4_init_232 : decode cX4_init 232 = .ok (.aload_n 0, 1) := dk_42 (dk_at dksX4_init_9 20 rfl rfl)
theorem dX4_init_233 : decode cX4_init 233 = .ok (.sipush 20400, 3) := dk_17 79 176 (dk_at dksX4_init_9 21 rfl rfl)
theorem dX4_init_236 : decode cX4_init 236 = .ok (.newarray .int, 2) := dk_188_10 (dk_at dksX4_init_10 0 rfl rfl)
theorem dX4_init_238 : decode cX4_init 238 = .ok (.putfield 97, 3) := dk_181 0 97 (dk_at dksX4_init_10 2 rfl rfl)
theorem dX4_init_241 : decode cX4_init 241 = .ok (.aload_n 0, 1) := dk_42 (dk_at dksX4_init_10 5 rfl rfl)
theorem dX4_init_242 : decode cX4_init 242 = .ok (.bipush 6, 2) := dk_16 6 (dk_at dksX4_init_10 6 rfl rfl)
theorem dX4_init_244 : decode cX4_init 244 = .ok (.newarray .int, 2) := dk_188_10 (dk_at dksX4_init_10 8 rfl rfl)
theorem dX4_init_246 : decode cX4_init 246 = .ok (.putfield 100, 3) := dk_181 0 100 (dk_at dksX4_init_10 10 rfl rfl)
theorem dX4_init_249 : decode cX4_init 249 = .ok (.aload_n 0, 1) := dk_42 (dk_at dksX4_init_10 13 rfl rfl)
theorem dX4_init_250 : decode cX4_init 250 = .ok (.bipush 8, 2) := dk_16 8 (dk_at dksX4_init_10 14 rfl rfl)
theorem dX4_init_252 : decode cX4_init 252 = .ok (.newarray .int, 2) := dk_188_10 (dk_at dksX4_init_10 16 rfl rfl)
theorem dX4_init_254 : decode cX4_init 254 = .ok (.putfield 103, 3) := dk_181 0 103 (dk_at dksX4_init_10 18 rfl rfl)
theorem dX4_init_257 : decode cX4_init 257 = .ok (.aload_n 0, 1) := dk_42 (dk_at dksX4_init_10 21 rfl rfl)
theorem dX4_init_258 : decode cX4_init 258 = .ok (.sipush 1200, 3) := dk_17 4 176 (dk_at dksX4_init_11 0 rfl rfl)
theorem dX4_init_261 : decode cX4_init 261 = .ok (.newarray .int, 2) := dk_188_10 (dk_at dksX4_init_11 3 rfl rfl)
theorem dX4_init_263 : decode cX4_init 263 = .ok (.putfield 106, 3) := dk_181 0 106 (dk_at dksX4_init_11 5 rfl rfl)
theorem dX4_init_266 : decode cX4_init 266 = .ok (.aload_n 0, 1) := dk_42 (dk_at dksX4_init_11 8 rfl rfl)
theorem dX4_init_267 : decode cX4_init 267 = .ok (.bipush 20, 2) := dk_16 20 (dk_at dksX4_init_11 9 rfl rfl)
theorem dX4_init_269 : decode cX4_init 269 = .ok (.newarray .int, 2) := dk_188_10 (dk_at dksX4_init_11 11 rfl rfl)
theorem dX4_init_271 : decode cX4_init 271 = .ok (.putfield 109, 3) := dk_181 0 109 (dk_at dksX4_init_11 13 rfl rfl)
theorem dX4_init_274 : decode cX4_init 274 = .ok (.aload_n 0, 1) := dk_42 (dk_at dksX4_init_11 16 rfl rfl)
theorem dX4_init_275 : decode cX4_init 275 = .ok (.bipush 20, 2) := dk_16 20 (dk_at dksX4_init_11 17 rfl rfl)
theorem dX4_init_277 : decode cX4_init 277 = .ok (.newarray .int, 2) := dk_188_10 (dk_at dksX4_init_11 19 rfl rfl)
theorem dX4_init_279 : decode cX4_init 279 = .ok (.putfield 112, 3) := dk_181 0 112 (dk_at dksX4_init_11 21 rfl rfl)
theorem dX4_init_282 : decode cX4_init 282 = .ok (.aload_n 0, 1) := dk_42 (dk_at dksX4_init_12 0 rfl rfl)
theorem dX4_init_283 : decode cX4_init 283 = .ok (.bipush 20, 2) := dk_16 20 (dk_at dksX4_init_12 1 rfl rfl)
theorem dX4_init_285 : decode cX4_init 285 = .ok (.newarray .int, 2) := dk_188_10 (dk_at dksX4_init_12 3 rfl rfl)
theorem dX4_init_287 : decode cX4_init 287 = .ok (.putfield 115, 3) := dk_181 0 115 (dk_at dksX4_init_12 5 rfl rfl)
theorem dX4_init_290 : decode cX4_init 290 = .ok (.aload_n 0, 1) := dk_42 (dk_at dksX4_init_12 8 rfl rfl)
theorem dX4_init_291 : decode cX4_init 291 = .ok (.bipush 20, 2) := dk_16 20 (dk_at dksX4_init_12 9 rfl rfl)
theorem dX4_init_293 : decode cX4_init 293 = .ok (.newarray .int, 2) := dk_188_10 (dk_at dksX4_init_12 11 rfl rfl)
theorem dX4_init_295 : decode cX4_init 295 = .ok (.putfield 118, 3) := dk_181 0 118 (dk_at dksX4_init_12 13 rfl rfl)
theorem dX4_init_298 : decode cX4_init 298 = .ok (.aload_n 0, 1) := dk_42 (dk_at dksX4_init_12 16 rfl rfl)
theorem dX4_init_299 : decode cX4_init 299 = .ok (.bipush 20, 2) := dk_16 20 (dk_at dksX4_init_12 17 rfl rfl)
theorem dX4_init_301 : decode cX4_init 301 = .ok (.newarray .int, 2) := dk_188_10 (dk_at dksX4_init_12 19 rfl rfl)
theorem dX4_init_303 : decode cX4_init 303 = .ok (.putfield 121, 3) := dk_181 0 121 (dk_at dksX4_init_12 21 rfl rfl)
theorem dX4_init_306 : decode cX4_init 306 = .ok (.aload_n 0, 1) := dk_42 (dk_at dksX4_init_13 0 rfl rfl)
theorem dX4_init_307 : decode cX4_init 307 = .ok (.bipush 20, 2) := dk_16 20 (dk_at dksX4_init_13 1 rfl rfl)
theorem dX4_init_309 : decode cX4_init 309 = .ok (.newarray .boolean, 2) := dk_188_4 (dk_at dksX4_init_13 3 rfl rfl)
theorem dX4_init_311 : decode cX4_init 311 = .ok (.putfield 124, 3) := dk_181 0 124 (dk_at dksX4_init_13 5 rfl rfl)
theorem dX4_init_314 : decode cX4_init 314 = .ok (.aload_n 0, 1) := dk_42 (dk_at dksX4_init_13 8 rfl rfl)
theorem dX4_init_315 : decode cX4_init 315 = .ok (.bipush 8, 2) := dk_16 8 (dk_at dksX4_init_13 9 rfl rfl)
theorem dX4_init_317 : decode cX4_init 317 = .ok (.newarray .int, 2) := dk_188_10 (dk_at dksX4_init_13 11 rfl rfl)
theorem dX4_init_319 : decode cX4_init 319 = .ok (.putfield 128, 3) := dk_181 0 128 (dk_at dksX4_init_13 13 rfl rfl)
theorem dX4_init_322 : decode cX4_init 322 = .ok (.aload_n 0, 1) := dk_42 (dk_at dksX4_init_13 16 rfl rfl)
theorem dX4_init_323 : decode cX4_init 323 = .ok (.bipush 8, 2) := dk_16 8 (dk_at dksX4_init_13 17 rfl rfl)
theorem dX4_init_325 : decode cX4_init 325 = .ok (.newarray .int, 2) := dk_188_10 (dk_at dksX4_init_13 19 rfl rfl)
theorem dX4_init_327 : decode cX4_init 327 = .ok (.putfield 131, 3) := dk_181 0 131 (dk_at dksX4_init_13 21 rfl rfl)
theorem dX4_init_330 : decode cX4_init 330 = .ok (.aload_n 0, 1) := dk_42 (dk_at dksX4_init_14 0 rfl rfl)
theorem dX4_init_331 : decode cX4_init 331 = .ok (.bipush 120, 2) := dk_16 120 (dk_at dksX4_init_14 1 rfl rfl)
theorem dX4_init_333 : decode cX4_init 333 = .ok (.newarray .int, 2) := dk_188_10 (dk_at dksX4_init_14 3 rfl rfl)
theorem dX4_init_335 : decode cX4_init 335 = .ok (.putfield 134, 3) := dk_181 0 134 (dk_at dksX4_init_14 5 rfl rfl)
theorem dX4_init_338 : decode cX4_init 338 = .ok (.aload_n 0, 1) := dk_42 (dk_at dksX4_init_14 8 rfl rfl)
theorem dX4_init_339 : decode cX4_init 339 = .ok (.bipush 120, 2) := dk_16 120 (dk_at dksX4_init_14 9 rfl rfl)
theorem dX4_init_341 : decode cX4_init 341 = .ok (.newarray .int, 2) := dk_188_10 (dk_at dksX4_init_14 11 rfl rfl)
theorem dX4_init_343 : decode cX4_init 343 = .ok (.putfield 137, 3) := dk_181 0 137 (dk_at dksX4_init_14 13 rfl rfl)
theorem dX4_init_346 : decode cX4_init 346 = .ok (.aload_n 0, 1) := dk_42 (dk_at dksX4_init_14 16 rfl rfl)
theorem dX4_init_347 : decode cX4_init 347 = .ok (.bipush 120, 2) := dk_16 120 (dk_at dksX4_init_14 17 rfl rfl)
theorem dX4_init_349 : decode cX4_init 349 = .ok (.newarray .int, 2) := dk_188_10 (dk_at dksX4_init_14 19 rfl rfl)
theorem dX4_init_351 : decode cX4_init 351 = .ok (.putfield 140, 3) := dk_181 0 140 (dk_at dksX4_init_14 21 rfl rfl)
theorem dX4_init_354 : decode cX4_init 354 = .ok (.aload_n 0, 1) := dk_42 (dk_at dksX4_init_15 0 rfl rfl)
theorem dX4_init_355 : decode cX4_init 355 = .ok (.bipush 120, 2) := dk_16 120 (dk_at dksX4_init_15 1 rfl rfl)
theorem dX4_init_357 : decode cX4_init 357 = .ok (.newarray .int, 2) := dk_188_10 (dk_at dksX4_init_15 3 rfl rfl)
theorem dX4_init_359 : decode cX4_init 359 = .ok (.putfield 143, 3) := dk_181 0 143 (dk_at dksX4_init_15 5 rfl rfl)
theorem dX4_init_362 : decode cX4_init 362 = .ok (.aload_n 0, 1) := dk_42 (dk_at dksX4_init_15 8 rfl rfl)
theorem dX4_init_363 : decode cX4_init 363 = .ok (.bipush 120, 2) := dk_16 120 (dk_at dksX4_init_15 9 rfl rfl)
theorem dX4_init_365 : decode cX4_init 365 = .ok (.newarray .int, 2) := dk_188_10 (dk_at dksX4_init_15 11 rfl rfl)
theorem dX4_init_367 : decode cX4_init 367 = .ok (.putfield 146, 3) := dk_181 0 146 (dk_at dksX4_init_15 13 rfl rfl)
theorem dX4_init_370 : decode cX4_init 370 = .ok (.aload_n 0, 1) := dk_42 (dk_at dksX4_init_15 16 rfl rfl)
theorem dX4_init_371 : decode cX4_init 371 = .ok (.bipush 120, 2) := dk_16 120 (dk_at dksX4_init_15 17 rfl rfl)
theorem dX4_init_373 : decode cX4_init 373 = .ok (.newarray .int, 2) := dk_188_10 (dk_at dksX4_init_15 19 rfl rfl)
theorem dX4_init_375 : decode cX4_init 375 = .ok (.putfield 149, 3) := dk_181 0 149 (dk_at dksX4_init_15 21 rfl rfl)
theorem dX4_init_378 : decode cX4_init 378 = .ok (.aload_n 0, 1) := dk_42 (dk_at dksX4_init_16 0 rfl rfl)
theorem dX4_init_379 : decode cX4_init 379 = .ok (.bipush 120, 2) := dk_16 120 (dk_at dksX4_init_16 1 rfl rfl)
theorem dX4_init_381 : decode cX4_init 381 = .ok (.newarray .int, 2) := dk_188_10 (dk_at dksX4_init_16 3 rfl rfl)
theorem dX4_init_383 : decode cX4_init 383 = .ok (.putfield 152, 3) := dk_181 0 152 (dk_at dksX4_init_16 5 rfl rfl)
theorem dX4_init_386 : decode cX4_init 386 = .ok (.aload_n 0, 1) := dk_42 (dk_at dksX4_init_16 8 rfl rfl)
theorem dX4_init_387 : decode cX4_init 387 = .ok (.bipush 120, 2) := dk_16 120 (dk_at dksX4_init_16 9 rfl rfl)
theorem dX4_init_389 : decode cX4_init 389 = .ok (.newarray .int, 2) := dk_188_10 (dk_at dksX4_init_16 11 rfl rfl)
theorem dX4_init_391 : decode cX4_init 391 = .ok (.putfield 155, 3) := dk_181 0 155 (dk_at dksX4_init_16 13 rfl rfl)
theorem dX4_init_394 : decode cX4_init 394 = .ok (.aload_n 0, 1) := dk_42 (dk_at dksX4_init_16 16 rfl rfl)
theorem dX4_init_395 : decode cX4_init 395 = .ok (.bipush 60, 2) := dk_16 60 (dk_at dksX4_init_16 17 rfl rfl)
theorem dX4_init_397 : decode cX4_init 397 = .ok (.newarray .int, 2) := dk_188_10 (dk_at dksX4_init_16 19 rfl rfl)
theorem dX4_init_399 : decode cX4_init 399 = .ok (.putfield 158, 3) := dk_181 0 158 (dk_at dksX4_init_16 21 rfl rfl)
theorem dX4_init_402 : decode cX4_init 402 = .ok (.aload_n 0, 1) := dk_42 (dk_at dksX4_init_17 0 rfl rfl)
theorem dX4_init_403 : decode cX4_init 403 = .ok (.bipush 60, 2) := dk_16 60 (dk_at dksX4_init_17 1 rfl rfl)
theorem dX4_init_405 : decode cX4_init 405 = .ok (.newarray .int, 2) := dk_188_10 (dk_at dksX4_init_17 3 rfl rfl)
theorem dX4_init_407 : decode cX4_init 407 = .ok (.putfield 161, 3) := dk_181 0 161 (dk_at dksX4_init_17 5 rfl rfl)
theorem dX4_init_410 : decode cX4_init 410 = .ok (.aload_n 0, 1) := dk_42 (dk_at dksX4_init_17 8 rfl rfl)
theorem dX4_init_411 : decode cX4_init 411 = .ok (.bipush 60, 2) := dk_16 60 (dk_at dksX4_init_17 9 rfl rfl)
theorem dX4_init_413 : decode cX4_init 413 = .ok (.newarray .int, 2) := dk_188_10 (dk_at dksX4_init_17 11 rfl rfl)
theorem dX4_init_415 : decode cX4_init 415 = .ok (.putfield 164, 3) := dk_181 0 164 (dk_at dksX4_init_17 13 rfl rfl)
theorem dX4_init_418 : decode cX4_init 418 = .ok (.aload_n 0, 1) := dk_42 (dk_at dksX4_init_17 16 rfl rfl)
theorem dX4_init_419 : decode cX4_init 419 = .ok (.bipush 120, 2) := dk_16 120 (dk_at dksX4_init_17 17 rfl rfl)
theorem dX4_init_421 : decode cX4_init 421 = .ok (.newarray .int, 2) := dk_188_10 (dk_at dksX4_init_17 19 rfl rfl)
theorem dX4_init_423 : decode cX4_init 423 = .ok (.putfield 167, 3) := dk_181 0 167 (dk_at dksX4_init_17 21 rfl rfl)
theorem dX4_init_426 : decode cX4_init 426 = .ok (.aload_n 0, 1) := dk_42 (dk_at dksX4_init_18 0 rfl rfl)
theorem dX4_init_427 : decode cX4_init 427 = .ok (.bipush 120, 2) := dk_16 120 (dk_at dksX4_init_18 1 rfl rfl)
theorem dX4_init_429 : decode cX4_init 429 = .ok (.newarray .int, 2) := dk_188_10 (dk_at dksX4_init_18 3 rfl rfl)
theorem dX4_init_431 : decode cX4_init 431 = .ok (.putfield 170, 3) := dk_181 0 170 (dk_at dksX4_init_18 5 rfl rfl)
theorem dX4_init_434 : decode cX4_init 434 = .ok (.aload_n 0, 1) := dk_42 (dk_at dksX4_init_18 8 rfl rfl)
theorem dX4_init_435 : decode cX4_init 435 = .ok (.bipush 120, 2) := dk_16 120 (dk_at dksX4_init_18 9 rfl rfl)
theorem dX4_init_437 : decode cX4_init 437 = .ok (.newarray .int, 2) := dk_188_10 (dk_at dksX4_init_18 11 rfl rfl)
theorem dX4_init_439 : decode cX4_init 439 = .ok (.putfield 173, 3) := dk_181 0 173 (dk_at dksX4_init_18 13 rfl rfl)
theorem dX4_init_442 : decode cX4_init 442 = .ok (.aload_n 0, 1) := dk_42 (dk_at dksX4_init_18 16 rfl rfl)
theorem dX4_init_443 : decode cX4_init 443 = .ok (.bipush 120, 2) := dk_16 120 (dk_at dksX4_init_18 17 rfl rfl)
theorem dX4_init_445 : decode cX4_init 445 = .ok (.newarray .int, 2) := dk_188_10 (dk_at dksX4_init_18 19 rfl rfl)
theorem dX4_init_447 : decode cX4_init 447 = .ok (.putfield 176, 3) := dk_181 0 176 (dk_at dksX4_init_18 21 rfl rfl)
theorem dX4_init_450 : decode cX4_init 450 = .ok (.aload_n 0, 1) := dk_42 (dk_at dksX4_init_19 0 rfl rfl)
theorem dX4_init_451 : decode cX4_init 451 = .ok (.bipush 12, 2) := dk_16 12 (dk_at dksX4_init_19 1 rfl rfl)
theorem dX4_init_453 : decode cX4_init 453 = .ok (.newarray .int, 2) := dk_188_10 (dk_at dksX4_init_19 3 rfl rfl)
theorem dX4_init_455 : decode cX4_init 455 = .ok (.putfield 179, 3) := dk_181 0 179 (dk_at dksX4_init_19 5 rfl rfl)
theorem dX4_init_458 : decode cX4_init 458 = .ok (.aload_n 0, 1) := dk_42 (dk_at dksX4_init_19 8 rfl rfl)
theorem dX4_init_459 : decode cX4_init 459 = .ok (.sipush 144, 3) := dk_17 0 144 (dk_at dksX4_init_19 9 rfl rfl)
theorem dX4_init_462 : decode cX4_init 462 = .ok (.newarray .boolean, 2) := dk_188_4 (dk_at dksX4_init_19 12 rfl rfl)
theorem dX4_init_464 : decode cX4_init 464 = .ok (.putfield 182, 3) := dk_181 0 182 (dk_at dksX4_init_19 14 rfl rfl)
theorem dX4_init_467 : decode cX4_init 467 = .ok (.aload_n 0, 1) := dk_42 (dk_at dksX4_init_19 17 rfl rfl)
theorem dX4_init_468 : decode cX4_init 468 = .ok (.bipush 8, 2) := dk_16 8 (dk_at dksX4_init_19 18 rfl rfl)
theorem dX4_init_470 : decode cX4_init 470 = .ok (.newarray .int, 2) := dk_188_10 (dk_at dksX4_init_19 20 rfl rfl)
theorem dX4_init_472 : decode cX4_init 472 = .ok (.putfield 185, 3) := dk_181 0 185 (dk_at dksX4_init_20 0 rfl rfl)
theorem dX4_init_475 : decode cX4_init 475 = .ok (.aload_n 0, 1) := dk_42 (dk_at dksX4_init_20 3 rfl rfl)
theorem dX4_init_476 : decode cX4_init 476 = .ok (.bipush 8, 2) := dk_16 8 (dk_at dksX4_init_20 4 rfl rfl)
theorem dX4_init_478 : decode cX4_init 478 = .ok (.newarray .int, 2) := dk_188_10 (dk_at dksX4_init_20 6 rfl rfl)
theorem dX4_init_480 : decode cX4_init 480 = .ok (.putfield 188, 3) := dk_181 0 188 (dk_at dksX4_init_20 8 rfl rfl)
theorem dX4_init_483 : decode cX4_init 483 = .ok (.aload_n 0, 1) := dk_42 (dk_at dksX4_init_20 11 rfl rfl)
theorem dX4_init_484 : decode cX4_init 484 = .ok (.bipush 20, 2) := dk_16 20 (dk_at dksX4_init_20 12 rfl rfl)
theorem dX4_init_486 : decode cX4_init 486 = .ok (.newarray .int, 2) := dk_188_10 (dk_at dksX4_init_20 14 rfl rfl)
theorem dX4_init_488 : decode cX4_init 488 = .ok (.putfield 191, 3) := dk_181 0 191 (dk_at dksX4_init_20 16 rfl rfl)
theorem dX4_init_491 : decode cX4_init 491 = .ok (.aload_n 0, 1) := dk_42 (dk_at dksX4_init_20 19 rfl rfl)
theorem dX4_init_492 : decode cX4_init 492 = .ok (.bipush 20, 2) := dk_16 20 (dk_at dksX4_init_20 20 rfl rfl)
theorem dX4_init_494 : decode cX4_init 494 = .ok (.newarray .int, 2) := dk_188_10 (dk_at dksX4_init_20 22 rfl rfl)
theorem dX4_init_496 : decode cX4_init 496 = .ok (.putfield 194, 3) := dk_181 0 194 (dk_at dksX4_init_21 0 rfl rfl)
theorem dX4_init_499 : decode cX4_init 499 = .ok (.aload_n 0, 1) := dk_42 (dk_at dksX4_init_21 3 rfl rfl)
theorem dX4_init_500 : decode cX4_init 500 = .ok (.bipush 20, 2) := dk_16 20 (dk_at dksX4_init_21 4 rfl rfl)
theorem dX4_init_502 : decode cX4_init 502 = .ok (.newarray .int, 2) := dk_188_10 (dk_at dksX4_init_21 6 rfl rfl)
theorem dX4_init_504 : decode cX4_init 504 = .ok (.putfield 197, 3) := dk_181 0 197 (dk_at dksX4_init_21 8 rfl rfl)
theorem dX4_init_507 : decode cX4_init 507 = .ok (.aload_n 0, 1) := dk_42 (dk_at dksX4_init_21 11 rfl rfl)
theorem dX4_init_508 : decode cX4_init 508 = .ok (.bipush 8, 2) := dk_16 8 (dk_at dksX4_init_21 12 rfl rfl)
theorem dX4_init_510 : decode cX4_init 510 = .ok (.newarray .int, 2) := dk_188_10 (dk_at dksX4_init_21 14 rfl rfl)
theorem dX4_init_512 : decode cX4_init 512 = .ok (.dup, 1) := dk_89 (dk_at dksX4_init_21 16 rfl rfl)
theorem dX4_init_513 : decode cX4_init 513 = .ok (.iconst 0, 1) := dk_3 (dk_at dksX4_init_21 17 rfl rfl)
theorem dX4_init_514 : decode cX4_init 514 = .ok (.iconst 1, 1) := dk_4 (dk_at dksX4_init_21 18 rfl rfl)
theorem dX4_init_515 : decode cX4_init 515 = .ok (.iastore, 1) := dk_79 (dk_at dksX4_init_21 19 rfl rfl)
theorem dX4_init_516 : decode cX4_init 516 = .ok (.dup, 1) := dk_89 (dk_at dksX4_init_21 20 rfl rfl)
theorem dX4_init_517 : decode cX4_init 517 = .ok (.iconst 1, 1) := dk_4 (dk_at dksX4_init_21 21 rfl rfl)
theorem dX4_init_518 : decode cX4_init 518 = .ok (.iconst 3, 1) := dk_6 (dk_at dksX4_init_21 22 rfl rfl)
theorem dX4_init_519 : decode cX4_init 519 = .ok (.iastore, 1) := dk_79 (dk_at dksX4_init_21 23 rfl rfl)
theorem dX4_init_520 : decode cX4_init 520 = .ok (.dup, 1) := dk_89 (dk_at dksX4_init_22 0 rfl rfl)
theorem dX4_init_521 : decode cX4_init 521 = .ok (.iconst 2, 1) := dk_5 (dk_at dksX4_init_22 1 rfl rfl)
theorem dX4_init_522 : decode cX4_init 522 = .ok (.bipush 9, 2) := dk_16 9 (dk_at dksX4_init_22 2 rfl rfl)
theorem dX4_init_524 : decode cX4_init 524 = .ok (.iastore, 1) := dk_79 (dk_at dksX4_init_22 4 rfl rfl)
theorem dX4_init_525 : decode cX4_init 525 = .ok (.dup, 1) := dk_89 (dk_at dksX4_init_22 5 rfl rfl)
theorem dX4_init_526 : decode cX4_init 526 = .ok (.iconst 3, 1) := dk_6 (dk_at dksX4_init_22 6 rfl rfl)
theorem dX4_init_527 : decode cX4_init 527 = .ok (.bipush 27, 2) := dk_16 27 (dk_at dksX4_init_22 7 rfl rfl)
theorem dX4_init_529 : decode cX4_init 529 = .ok (.iastore, 1) := dk_79 (dk_at dksX4_init_22 9 rfl rfl)
theorem dX4_init_530 : decode cX4_init 530 = .ok (.dup, 1) := dk_89 (dk_at dksX4_init_22 10 rfl rfl)
theorem dX4_init_531 : decode cX4_init 531 = .ok (.iconst 4, 1) := dk_7 (dk_at dksX4_init_22 11 rfl rfl)
theorem dX4_init_532 : decode cX4_init 532 = .ok (.bipush 81, 2) := dk_16 81 (dk_at dksX4_init_22 12 rfl rfl)
theorem dX4_init_534 : decode cX4_init 534 = .ok (.iastore, 1) := dk_79 (dk_at dksX4_init_22 14 rfl rfl)
theorem dX4_init_535 : decode cX4_init 535 = .ok (.dup, 1) := dk_89 (dk_at dksX4_init_22 15 rfl rfl)
theorem dX4_init_536 : decode cX4_init 536 = .ok (.iconst 5, 1) := dk_8 (dk_at dksX4_init_22 16 rfl rfl)
theorem dX4_init_537 : decode cX4_init 537 = .ok (.sipush 243, 3) := dk_17 0 243 (dk_at dksX4_init_22 17 rfl rfl)
theorem dX4_init_540 : decode cX4_init 540 = .ok (.iastore, 1) := dk_79 (dk_at dksX4_init_22 20 rfl rfl)
theorem dX4_init_541 : decode cX4_init 541 = .ok (.dup, 1) := dk_89 (dk_at dksX4_init_22 21 rfl rfl)
theorem dX4_init_542 : decode cX4_init 542 = .ok (.bipush 6, 2) := dk_16 6 (dk_at dksX4_init_22 22 rfl rfl)
theorem dX4_init_544 : decode cX4_init 544 = .ok (.sipush 729, 3) := dk_17 2 217 (dk_at dksX4_init_23 0 rfl rfl)
theorem dX4_init_547 : decode cX4_init 547 = .ok (.iastore, 1) := dk_79 (dk_at dksX4_init_23 3 rfl rfl)
theorem dX4_init_548 : decode cX4_init 548 = .ok (.dup, 1) := dk_89 (dk_at dksX4_init_23 4 rfl rfl)
theorem dX4_init_549 : decode cX4_init 549 = .ok (.bipush 7, 2) := dk_16 7 (dk_at dksX4_init_23 5 rfl rfl)
theorem dX4_init_551 : decode cX4_init 551 = .ok (.sipush 2187, 3) := dk_17 8 139 (dk_at dksX4_init_23 7 rfl rfl)
theorem dX4_init_554 : decode cX4_init 554 = .ok (.iastore, 1) := dk_79 (dk_at dksX4_init_23 10 rfl rfl)
theorem dX4_init_555 : decode cX4_init 555 = .ok (.putfield 200, 3) := dk_181 0 200 (dk_at dksX4_init_23 11 rfl rfl)
theorem dX4_init_558 : decode cX4_init 558 = .ok (.aload_n 0, 1) := dk_42 (dk_at dksX4_init_23 14 rfl rfl)
theorem dX4_init_559 : decode cX4_init 559 = .ok (.ldc 203, 2) := dk_18 203 (dk_at dksX4_init_23 15 rfl rfl)
theorem dX4_init_561 : decode cX4_init 561 = .ok (.newarray .int, 2) := dk_188_10 (dk_at dksX4_init_23 17 rfl rfl)
theorem dX4_init_563 : decode cX4_init 563 = .ok (.putfield 204, 3) := dk_181 0 204 (dk_at dksX4_init_23 19 rfl rfl)
theorem dX4_init_566 : decode cX4_init 566 = .ok (.aload_n 0, 1) := dk_42 (dk_at dksX4_init_23 22 rfl rfl)
theorem dX4_init_567 : decode cX4_init 567 = .ok (.bipush 8, 2) := dk_16 8 (dk_at dksX4_init_24 0 rfl rfl)
theorem dX4_init_569 : decode cX4_init 569 = .ok (.newarray .int, 2) := dk_188_10 (dk_at dksX4_init_24 2 rfl rfl)
theorem dX4_init_571 : decode cX4_init 571 = .ok (.putfield 207, 3) := dk_181 0 207 (dk_at dksX4_init_24 4 rfl rfl)
theorem dX4_init_574 : decode cX4_init 574 = .ok (.aload_n 0, 1) := dk_42 (dk_at dksX4_init_24 7 rfl rfl)
theorem dX4_init_575 : decode cX4_init 575 = .ok (.bipush 8, 2) := dk_16 8 (dk_at dksX4_init_24 8 rfl rfl)
theorem dX4_init_577 : decode cX4_init 577 = .ok (.newarray .int, 2) := dk_188_10 (dk_at dksX4_init_24 10 rfl rfl)
theorem dX4_init_579 : decode cX4_init 579 = .ok (.putfield 210, 3) := dk_181 0 210 (dk_at dksX4_init_24 12 rfl rfl)
theorem dX4_init_582 : decode cX4_init 582 = .ok (.aload_n 0, 1) := dk_42 (dk_at dksX4_init_24 15 rfl rfl)
theorem dX4_init_583 : decode cX4_init 583 = .ok (.bipush 64, 2) := dk_16 64 (dk_at dksX4_init_24 16 rfl rfl)
theorem dX4_init_585 : decode cX4_init 585 = .ok (.newarray .int, 2) := dk_188_10 (dk_at dksX4_init_24 18 rfl rfl)
theorem dX4_init_587 : decode cX4_init 587 = .ok (.putfield 213, 3) := dk_181 0 213 (dk_at dksX4_init_24 20 rfl rfl)
theorem dX4_init_590 : decode cX4_init 590 = .ok (.aload_n 0, 1) := dk_42 (dk_at dksX4_init_24 23 rfl rfl)
theorem dX4_init_591 : decode cX4_init 591 = .ok (.iconst (-1), 1) := dk_2 (dk_at dksX4_init_25 0 rfl rfl)
theorem dX4_init_592 : decode cX4_init 592 = .ok (.putfield 216, 3) := dk_181 0 216 (dk_at dksX4_init_25 1 rfl rfl)
theorem dX4_init_595 : decode cX4_init 595 = .ok (.aload_n 0, 1) := dk_42 (dk_at dksX4_init_25 4 rfl rfl)
theorem dX4_init_596 : decode cX4_init 596 = .ok (.iconst 5, 1) := dk_8 (dk_at dksX4_init_25 5 rfl rfl)
theorem dX4_init_597 : decode cX4_init 597 = .ok (.putfield 219, 3) := dk_181 0 219 (dk_at dksX4_init_25 6 rfl rfl)
theorem dX4_init_600 : decode cX4_init 600 = .ok (.aload_n 0, 1) := dk_42 (dk_at dksX4_init_25 9 rfl rfl)
theorem dX4_init_601 : decode cX4_init 601 = .ok (.bipush 20, 2) := dk_16 20 (dk_at dksX4_init_25 10 rfl rfl)
theorem dX4_init_603 : decode cX4_init 603 = .ok (.putfield 222, 3) := dk_181 0 222 (dk_at dksX4_init_25 12 rfl rfl)
theorem dX4_init_606 : decode cX4_init 606 = .ok (.aload_n 0, 1) := dk_42 (dk_at dksX4_init_25 15 rfl rfl)
theorem dX4_init_607 : decode cX4_init 607 = .ok (.bipush 60, 2) := dk_16 60 (dk_at dksX4_init_25 16 rfl rfl)
theorem dX4_init_609 : decode cX4_init 609 = .ok (.putfield 225, 3) := dk_181 0 225 (dk_at dksX4_init_25 18 rfl rfl)
theorem dX4_init_612 : decode cX4_init 612 = .ok (.aload_n 0, 1) := dk_42 (dk_at dksX4_init_25 21 rfl rfl)
theorem dX4_init_613 : decode cX4_init 613 = .ok (.bipush 30, 2) := dk_16 30 (dk_at dksX4_init_25 22 rfl rfl)
theorem dX4_init_615 : decode cX4_init 615 = .ok (.putfield 228, 3) := dk_181 0 228 (dk_at dksX4_init_26 0 rfl rfl)
theorem dX4_init_618 : decode cX4_init 618 = .ok (.aload_n 0, 1) := dk_42 (dk_at dksX4_init_26 3 rfl rfl)
theorem dX4_init_619 : decode cX4_init 619 = .ok (.bipush 60, 2) := dk_16 60 (dk_at dksX4_init_26 4 rfl rfl)
theorem dX4_init_621 : decode cX4_init 621 = .ok (.putfield 231, 3) := dk_181 0 231 (dk_at dksX4_init_26 6 rfl rfl)
theorem dX4_init_624 : decode cX4_init 624 = .ok (.return_, 1) := dk_177 (dk_at dksX4_init_26 9 rfl rfl)
abbrev cX4_brief : ByteArray := prog_21_method_18_code
def yX4_brief : MethodName := ⟨RX4, "brief", "(II)I"⟩
def dkwX4_brief_4 : List UInt8 := [154, 0, 9, 42, 27, 28, 182, 1, 35, 42, 180, 1, 4, 172]
abbrev dktX4_brief_4 : List UInt8 := dkwX4_brief_4 ++ []
def dkwX4_brief_3 : List UInt8 := [42, 180, 0, 24, 42, 180, 1, 1, 46, 153, 0, 10, 42, 182, 1, 32, 167, 255, 233, 42, 180, 1, 4]
abbrev dktX4_brief_3 : List UInt8 := dkwX4_brief_3 ++ dktX4_brief_4
def dkwX4_brief_2 : List UInt8 := [3, 181, 1, 20, 42, 3, 181, 1, 29, 42, 180, 0, 76, 16, 16, 3, 79, 42, 180, 1, 4, 154, 0, 22]
abbrev dktX4_brief_2 : List UInt8 := dkwX4_brief_2 ++ dktX4_brief_3
def dkwX4_brief_1 : List UInt8 := [163, 0, 12, 42, 180, 1, 23, 16, 16, 160, 0, 10, 42, 3, 181, 0, 11, 2, 172, 42, 182, 1, 26, 42]
abbrev dktX4_brief_1 : List UInt8 := dkwX4_brief_1 ++ dktX4_brief_2
def dkwX4_brief_0 : List UInt8 := [42, 3, 181, 0, 1, 27, 155, 0, 28, 27, 6, 163, 0, 23, 28, 155, 0, 19, 28, 17, 39, 15]
abbrev dktX4_brief_0 : List UInt8 := dkwX4_brief_0 ++ dktX4_brief_1
theorem dksX4_brief_0 : cX4_brief.data.toList.drop 0 = dktX4_brief_0 := by decide +kernel
theorem dksX4_brief_1 : cX4_brief.data.toList.drop 22 = dktX4_brief_1 := dk_seg dksX4_brief_0 22 rfl rfl
theorem dksX4_brief_2 : cX4_brief.data.toList.drop 46 = dktX4_brief_2 := dk_seg dksX4_brief_1 24 rfl rfl
theorem dksX4_brief_3 : cX4_brief.data.toList.drop 70 = dktX4_brief_3 := dk_seg dksX4_brief_2 24 rfl rfl
theorem dksX4_brief_4 : cX4_brief.data.toList.drop 93 = dktX4_brief_4 := dk_seg dksX4_brief_3 23 rfl rfl
theorem dX4_brief_0 : decode cX4_brief 0 = .ok (.aload_n 0, 1) := dk_42 (dk_at dksX4_brief_0 0 rfl rfl)
theorem dX4_brief_1 : decode cX4_brief 1 = .ok (.iconst 0, 1) := dk_3 (dk_at dksX4_brief_0 1 rfl rfl)
theorem dX4_brief_2 : decode cX4_brief 2 = .ok (.putfield 1, 3) := dk_181 0 1 (dk_at dksX4_brief_0 2 rfl rfl)
theorem dX4_brief_5 : decode cX4_brief 5 = .ok (.iload_n 1, 1) := dk_27 (dk_at dksX4_brief_0 5 rfl rfl)
theorem dX4_brief_6 : decode cX4_brief 6 = .ok (.ifCond .lt 28, 3) := dk_155 0 28 (dk_at dksX4_brief_0 6 rfl rfl)
theorem dX4_brief_9 : decode cX4_brief 9 = .ok (.iload_n 1, 1) := dk_27 (dk_at dksX4_brief_0 9 rfl rfl)
theorem dX4_brief_10 : decode cX4_brief 10 = .ok (.iconst 3, 1) := dk_6 (dk_at dksX4_brief_0 10 rfl rfl)
theorem dX4_brief_11 : decode cX4_brief 11 = .ok (.if_icmp .gt 23, 3) := dk_163 0 23 (dk_at dksX4_brief_0 11 rfl rfl)
theorem dX4_brief_14 : decode cX4_brief 14 = .ok (.iload_n 2, 1) := dk_28 (dk_at dksX4_brief_0 14 rfl rfl)
theorem dX4_brief_15 : decode cX4_brief 15 = .ok (.ifCond .lt 19, 3) := dk_155 0 19 (dk_at dksX4_brief_0 15 rfl rfl)
theorem dX4_brief_18 : decode cX4_brief 18 = .ok (.iload_n 2, 1) := dk_28 (dk_at dksX4_brief_0 18 rfl rfl)
theorem dX4_brief_19 : decode cX4_brief 19 = .ok (.sipush 9999, 3) := dk_17 39 15 (dk_at dksX4_brief_0 19 rfl rfl)
theorem dX4_brief_22 : decode cX4_brief 22 = .ok (.if_icmp .gt 12, 3) := dk_163 0 12 (dk_at dksX4_brief_1 0 rfl rfl)
theorem dX4_brief_25 : decode cX4_brief 25 = .ok (.aload_n 0, 1) := dk_42 (dk_at dksX4_brief_1 3 rfl rfl)
theorem dX4_brief_26 : decode cX4_brief 26 = .ok (.getfield 279, 3) := dk_180 1 23 (dk_at dksX4_brief_1 4 rfl rfl)
theorem dX4_brief_29 : decode cX4_brief 29 = .ok (.bipush 16, 2) := dk_16 16 (dk_at dksX4_brief_1 7 rfl rfl)
theorem dX4_brief_31 : decode cX4_brief 31 = .ok (.if_icmp .ne 10, 3) := dk_160 0 10 (dk_at dksX4_brief_1 9 rfl rfl)
theorem dX4_brief_34 : decode cX4_brief 34 = .ok (.aload_n 0, 1) := dk_42 (dk_at dksX4_brief_1 12 rfl rfl)
theorem dX4_brief_35 : decode cX4_brief 35 = .ok (.iconst 0, 1) := dk_3 (dk_at dksX4_brief_1 13 rfl rfl)
theorem dX4_brief_36 : decode cX4_brief 36 = .ok (.putfield 11, 3) := dk_181 0 11 (dk_at dksX4_brief_1 14 rfl rfl)
theorem dX4_brief_39 : decode cX4_brief 39 = .ok (.iconst (-1), 1) := dk_2 (dk_at dksX4_brief_1 17 rfl rfl)
theorem dX4_brief_40 : decode cX4_brief 40 = .ok (.ireturn, 1) := dk_172 (dk_at dksX4_brief_1 18 rfl rfl)
theorem dX4_brief_41 : decode cX4_brief 41 = .ok (.aload_n 0, 1) := dk_42 (dk_at dksX4_brief_1 19 rfl rfl)
theorem dX4_brief_42 : decode cX4_brief 42 = .ok (.invokevirtual 282, 3) := dk_182 1 26 (dk_at dksX4_brief_1 20 rfl rfl)
theorem dX4_brief_45 : decode cX4_brief 45 = .ok (.aload_n 0, 1) := dk_42 (dk_at dksX4_brief_1 23 rfl rfl)
theorem dX4_brief_46 : decode cX4_brief 46 = .ok (.iconst 0, 1) := dk_3 (dk_at dksX4_brief_2 0 rfl rfl)
theorem dX4_brief_47 : decode cX4_brief 47 = .ok (.putfield 276, 3) := dk_181 1 20 (dk_at dksX4_brief_2 1 rfl rfl)
theorem dX4_brief_50 : decode cX4_brief 50 = .ok (.aload_n 0, 1) := dk_42 (dk_at dksX4_brief_2 4 rfl rfl)
theorem dX4_brief_51 : decode cX4_brief 51 = .ok (.iconst 0, 1) := dk_3 (dk_at dksX4_brief_2 5 rfl rfl)
theorem dX4_brief_52 : decode cX4_brief 52 = .ok (.putfield 285, 3) := dk_181 1 29 (dk_at dksX4_brief_2 6 rfl rfl)
theorem dX4_brief_55 : decode cX4_brief 55 = .ok (.aload_n 0, 1) := dk_42 (dk_at dksX4_brief_2 9 rfl rfl)
theorem dX4_brief_56 : decode cX4_brief 56 = .ok (.getfield 76, 3) := dk_180 0 76 (dk_at dksX4_brief_2 10 rfl rfl)
theorem dX4_brief_59 : decode cX4_brief 59 = .ok (.bipush 16, 2) := dk_16 16 (dk_at dksX4_brief_2 13 rfl rfl)
theorem dX4_brief_61 : decode cX4_brief 61 = .ok (.iconst 0, 1) := dk_3 (dk_at dksX4_brief_2 15 rfl rfl)
theorem dX4_brief_62 : decode cX4_brief 62 = .ok (.iastore, 1) := dk_79 (dk_at dksX4_brief_2 16 rfl rfl)
theorem dX4_brief_63 : decode cX4_brief 63 = .ok (.aload_n 0, 1) := dk_42 (dk_at dksX4_brief_2 17 rfl rfl)
theorem dX4_brief_64 : decode cX4_brief 64 = .ok (.getfield 260, 3) := dk_180 1 4 (dk_at dksX4_brief_2 18 rfl rfl)
theorem dX4_brief_67 : decode cX4_brief 67 = .ok (.ifCond .ne 22, 3) := dk_154 0 22 (dk_at dksX4_brief_2 21 rfl rfl)
theorem dX4_brief_70 : decode cX4_brief 70 = .ok (.aload_n 0, 1) := dk_42 (dk_at dksX4_brief_3 0 rfl rfl)
theorem dX4_brief_71 : decode cX4_brief 71 = .ok (.getfield 24, 3) := dk_180 0 24 (dk_at dksX4_brief_3 1 rfl rfl)
theorem dX4_brief_74 : decode cX4_brief 74 = .ok (.aload_n 0, 1) := dk_42 (dk_at dksX4_brief_3 4 rfl rfl)
theorem dX4_brief_75 : decode cX4_brief 75 = .ok (.getfield 257, 3) := dk_180 1 1 (dk_at dksX4_brief_3 5 rfl rfl)
theorem dX4_brief_78 : decode cX4_brief 78 = .ok (.iaload, 1) := dk_46 (dk_at dksX4_brief_3 8 rfl rfl)
theorem dX4_brief_79 : decode cX4_brief 79 = .ok (.ifCond .eq 10, 3) := dk_153 0 10 (dk_at dksX4_brief_3 9 rfl rfl)
theorem dX4_brief_82 : decode cX4_brief 82 = .ok (.aload_n 0, 1) := dk_42 (dk_at dksX4_brief_3 12 rfl rfl)
theorem dX4_brief_83 : decode cX4_brief 83 = .ok (.invokevirtual 288, 3) := dk_182 1 32 (dk_at dksX4_brief_3 13 rfl rfl)
theorem dX4_brief_86 : decode cX4_brief 86 = .ok (.goto (-23), 3) := dk_167 255 233 (dk_at dksX4_brief_3 16 rfl rfl)
theorem dX4_brief_89 : decode cX4_brief 89 = .ok (.aload_n 0, 1) := dk_42 (dk_at dksX4_brief_3 19 rfl rfl)
theorem dX4_brief_90 : decode cX4_brief 90 = .ok (.getfield 260, 3) := dk_180 1 4 (dk_at dksX4_brief_3 20 rfl rfl)
theorem dX4_brief_93 : decode cX4_brief 93 = .ok (.ifCond .ne 9, 3) := dk_154 0 9 (dk_at dksX4_brief_4 0 rfl rfl)
theorem dX4_brief_96 : decode cX4_brief 96 = .ok (.aload_n 0, 1) := dk_42 (dk_at dksX4_brief_4 3 rfl rfl)
theorem dX4_brief_97 : decode cX4_brief 97 = .ok (.iload_n 1, 1) := dk_27 (dk_at dksX4_brief_4 4 rfl rfl)
theorem dX4_brief_98 : decode cX4_brief 98 = .ok (.iload_n 2, 1) := dk_28 (dk_at dksX4_brief_4 5 rfl rfl)
theorem dX4_brief_99 : decode cX4_brief 99 = .ok (.invokevirtual 291, 3) := dk_182 1 35 (dk_at dksX4_brief_4 6 rfl rfl)
theorem dX4_brief_102 : decode cX4_brief 102 = .ok (.aload_n 0, 1) := dk_42 (dk_at dksX4_brief_4 9 rfl rfl)
theorem dX4_brief_103 : decode cX4_brief 103 = .ok (.getfield 260, 3) := dk_180 1 4 (dk_at dksX4_brief_4 10 rfl rfl)
theorem dX4_brief_106 : decode cX4_brief 106 = .ok (.ireturn, 1) := dk_172 (dk_at dksX4_brief_4 13 rfl rfl)
abbrev cX4_cutAll : ByteArray := prog_21_method_9_code
def yX4_cutAll : MethodName := ⟨RX4, "cutAll", "()V"⟩
def dkwX4_cutAll_13 : List UInt8 := [181, 1, 4, 177]
abbrev dktX4_cutAll_13 : List UInt8 := dkwX4_cutAll_13 ++ []
def dkwX4_cutAll_12 : List UInt8 := [180, 0, 24, 27, 3, 79, 42, 180, 0, 27, 27, 42, 180, 0, 238, 79, 42, 3, 181, 1, 1, 42, 3]
abbrev dktX4_cutAll_12 : List UInt8 := dkwX4_cutAll_12 ++ dktX4_cutAll_13
def dkwX4_cutAll_11 : List UInt8 := [6, 167, 0, 4, 7, 79, 132, 2, 1, 42, 180, 0, 30, 27, 22, 5, 80, 132, 1, 1, 167, 254, 253, 42]
abbrev dktX4_cutAll_11 : List UInt8 := dkwX4_cutAll_11 ++ dktX4_cutAll_12
def dkwX4_cutAll_10 : List UInt8 := [167, 0, 4, 5, 79, 167, 0, 28, 29, 133, 55, 5, 42, 180, 0, 24, 27, 29, 184, 0, 254, 153, 0, 7]
abbrev dktX4_cutAll_10 : List UInt8 := dkwX4_cutAll_10 ++ dktX4_cutAll_11
def dkwX4_cutAll_9 : List UInt8 := [22, 5, 55, 5, 132, 2, 1, 167, 255, 200, 42, 180, 0, 24, 27, 28, 21, 4, 100, 7, 164, 0, 7, 7]
abbrev dktX4_cutAll_9 : List UInt8 := dkwX4_cutAll_9 ++ dktX4_cutAll_10
def dkwX4_cutAll_8 : List UInt8 := [162, 0, 24, 20, 0, 250, 22, 5, 105, 42, 180, 0, 14, 28, 46, 133, 97, 20, 0, 252, 101, 167, 0, 5]
abbrev dktX4_cutAll_8 : List UInt8 := dkwX4_cutAll_8 ++ dktX4_cutAll_9
def dkwX4_cutAll_7 : List UInt8 := [180, 0, 238, 162, 0, 54, 42, 180, 0, 14, 28, 46, 184, 0, 247, 153, 0, 42, 28, 21, 4, 100, 7]
abbrev dktX4_cutAll_7 : List UInt8 := dkwX4_cutAll_7 ++ dktX4_cutAll_8
def dkwX4_cutAll_6 : List UInt8 := [16, 8, 164, 0, 7, 7, 167, 0, 4, 4, 79, 167, 0, 116, 29, 184, 0, 247, 153, 0, 84, 28, 42]
abbrev dktX4_cutAll_6 : List UInt8 := dkwX4_cutAll_6 ++ dktX4_cutAll_7
def dkwX4_cutAll_5 : List UInt8 := [97, 167, 0, 5, 22, 5, 55, 5, 132, 2, 1, 167, 255, 200, 42, 180, 0, 24, 27, 28, 21, 4, 100]
abbrev dktX4_cutAll_5 : List UInt8 := dkwX4_cutAll_5 ++ dktX4_cutAll_6
def dkwX4_cutAll_4 : List UInt8 := [21, 4, 100, 16, 8, 162, 0, 23, 20, 0, 241, 22, 5, 105, 42, 180, 0, 14, 28, 46, 184, 0, 243, 133]
abbrev dktX4_cutAll_4 : List UInt8 := dkwX4_cutAll_4 ++ dktX4_cutAll_5
def dkwX4_cutAll_3 : List UInt8 := [153, 0, 85, 28, 42, 180, 0, 238, 162, 0, 54, 42, 180, 0, 14, 28, 46, 184, 0, 234, 153, 0, 42, 28]
abbrev dktX4_cutAll_3 : List UInt8 := dkwX4_cutAll_3 ++ dktX4_cutAll_4
def dkwX4_cutAll_2 : List UInt8 := [132, 2, 1, 167, 255, 226, 28, 54, 4, 9, 55, 5, 42, 180, 0, 27, 27, 28, 79, 29, 184, 0, 234]
abbrev dktX4_cutAll_2 : List UInt8 := dkwX4_cutAll_2 ++ dktX4_cutAll_3
def dkwX4_cutAll_1 : List UInt8 := [162, 1, 1, 42, 180, 0, 14, 28, 46, 62, 29, 16, 10, 159, 0, 9, 29, 16, 32, 160, 0, 9]
abbrev dktX4_cutAll_1 : List UInt8 := dkwX4_cutAll_1 ++ dktX4_cutAll_2
def dkwX4_cutAll_0 : List UInt8 := [42, 42, 180, 0, 11, 181, 0, 238, 42, 3, 181, 0, 11, 3, 60, 3, 61, 28, 42, 180, 0, 238]
abbrev dktX4_cutAll_0 : List UInt8 := dkwX4_cutAll_0 ++ dktX4_cutAll_1
theorem dksX4_cutAll_0 : cX4_cutAll.data.toList.drop 0 = dktX4_cutAll_0 := by decide +kernel
theorem dksX4_cutAll_1 : cX4_cutAll.data.toList.drop 22 = dktX4_cutAll_1 := dk_seg dksX4_cutAll_0 22 rfl rfl
theorem dksX4_cutAll_2 : cX4_cutAll.data.toList.drop 44 = dktX4_cutAll_2 := dk_seg dksX4_cutAll_1 22 rfl rfl
theorem dksX4_cutAll_3 : cX4_cutAll.data.toList.drop 67 = dktX4_cutAll_3 := dk_seg dksX4_cutAll_2 23 rfl rfl
theorem dksX4_cutAll_4 : cX4_cutAll.data.toList.drop 91 = dktX4_cutAll_4 := dk_seg dksX4_cutAll_3 24 rfl rfl
theorem dksX4_cutAll_5 : cX4_cutAll.data.toList.drop 115 = dktX4_cutAll_5 := dk_seg dksX4_cutAll_4 24 rfl rfl
theorem dksX4_cutAll_6 : cX4_cutAll.data.toList.drop 138 = dktX4_cutAll_6 := dk_seg dksX4_cutAll_5 23 rfl rfl
theorem dksX4_cutAll_7 : cX4_cutAll.data.toList.drop 161 = dktX4_cutAll_7 := dk_seg dksX4_cutAll_6 23 rfl rfl
theorem dksX4_cutAll_8 : cX4_cutAll.data.toList.drop 184 = dktX4_cutAll_8 := dk_seg dksX4_cutAll_7 23 rfl rfl
theorem dksX4_cutAll_9 : cX4_cutAll.data.toList.drop 208 = dktX4_cutAll_9 := dk_seg dksX4_cutAll_8 24 rfl rfl
theorem dksX4_cutAll_10 : cX4_cutAll.data.toList.drop 232 = dktX4_cutAll_10 := dk_seg dksX4_cutAll_9 24 rfl rfl
theorem dksX4_cutAll_11 : cX4_cutAll.data.toList.drop 256 = dktX4_cutAll_11 := dk_seg dksX4_cutAll_10 24 rfl rfl
theorem dksX4_cutAll_12 : cX4_cutAll.data.toList.drop 280 = dktX4_cutAll_12 := dk_seg dksX4_cutAll_11 24 rfl rfl
theorem dksX4_cutAll_13 : cX4_cutAll.data.toList.drop 303 = dktX4_cutAll_13 := dk_seg dksX4_cutAll_12 23 rfl rfl
theorem dX4_cutAll_0 : decode cX4_cutAll 0 = .ok (.aload_n 0, 1) := dk_42 (dk_at dksX4_cutAll_0 0 rfl rfl)
theorem dX4_cutAll_1 : decode cX4_cutAll 1 = .ok (.aload_n 0, 1) := dk_42 (dk_at dksX4_cutAll_0 1 rfl rfl)
theorem dX4_cutAll_2 : decode cX4_cutAll 2 = .ok (.getfield 11, 3) := dk_180 0 11 (dk_at dksX4_cutAll_0 2 rfl rfl)
theorem dX4_cutAll_5 : decode cX4_cutAll 5 = .ok (.putfield 238, 3) := dk_181 0 238 (dk_at dksX4_cutAll_0 5 rfl rfl)
theorem dX4_cutAll_8 : decode cX4_cutAll 8 = .ok (.aload_n 0, 1) := dk_42 (dk_at dksX4_cutAll_0 8 rfl rfl)
theorem dX4_cutAll_9 : decode cX4_cutAll 9 = .ok (.iconst 0, 1) := dk_3 (dk_at dksX4_cutAll_0 9 rfl rfl)
theorem dX4_cutAll_10 : decode cX4_cutAll 10 = .ok (.putfield 11, 3) := dk_181 0 11 (dk_at dksX4_cutAll_0 10 rfl rfl)
theorem dX4_cutAll_13 : decode cX4_cutAll 13 = .ok (.iconst 0, 1) := dk_3 (dk_at dksX4_cutAll_0 13 rfl rfl)
theorem dX4_cutAll_14 : decode cX4_cutAll 14 = .ok (.istore_n 1, 1) := dk_60 (dk_at dksX4_cutAll_0 14 rfl rfl)
theorem dX4_cutAll_15 : decode cX4_cutAll 15 = .ok (.iconst 0, 1) := dk_3 (dk_at dksX4_cutAll_0 15 rfl rfl)
theorem dX4_cutAll_16 : decode cX4_cutAll 16 = .ok (.istore_n 2, 1) := dk_61 (dk_at dksX4_cutAll_0 16 rfl rfl)
theorem dX4_cutAll_17 : decode cX4_cutAll 17 = .ok (.iload_n 2, 1) := dk_28 (dk_at dksX4_cutAll_0 17 rfl rfl)
theorem dX4_cutAll_18 : decode cX4_cutAll 18 = .ok (.aload_n 0, 1) := dk_42 (dk_at dksX4_cutAll_0 18 rfl rfl)
theorem dX4_cutAll_19 : decode cX4_cutAll 19 = .ok (.getfield 238, 3) := dk_180 0 238 (dk_at dksX4_cutAll_0 19 rfl rfl)
theorem dX4_cutAll_22 : decode cX4_cutAll 22 = .ok (.if_icmp .ge 257, 3) := dk_162 1 1 (dk_at dksX4_cutAll_1 0 rfl rfl)
theorem dX4_cutAll_25 : decode cX4_cutAll 25 = .ok (.aload_n 0, 1) := dk_42 (dk_at dksX4_cutAll_1 3 rfl rfl)
theorem dX4_cutAll_26 : decode cX4_cutAll 26 = .ok (.getfield 14, 3) := dk_180 0 14 (dk_at dksX4_cutAll_1 4 rfl rfl)
theorem dX4_cutAll_29 : decode cX4_cutAll 29 = .ok (.iload_n 2, 1) := dk_28 (dk_at dksX4_cutAll_1 7 rfl rfl)
theorem dX4_cutAll_30 : decode cX4_cutAll 30 = .ok (.iaload, 1) := dk_46 (dk_at dksX4_cutAll_1 8 rfl rfl)
theorem dX4_cutAll_31 : decode cX4_cutAll 31 = .ok (.istore_n 3, 1) := dk_62 (dk_at dksX4_cutAll_1 9 rfl rfl)
theorem dX4_cutAll_32 : decode cX4_cutAll 32 = .ok (.iload_n 3, 1) := dk_29 (dk_at dksX4_cutAll_1 10 rfl rfl)
theorem dX4_cutAll_33 : decode cX4_cutAll 33 = .ok (.bipush 10, 2) := dk_16 10 (dk_at dksX4_cutAll_1 11 rfl rfl)
theorem dX4_cutAll_35 : decode cX4_cutAll 35 = .ok (.if_icmp .eq 9, 3) := dk_159 0 9 (dk_at dksX4_cutAll_1 13 rfl rfl)
theorem dX4_cutAll_38 : decode cX4_cutAll 38 = .ok (.iload_n 3, 1) := dk_29 (dk_at dksX4_cutAll_1 16 rfl rfl)
theorem dX4_cutAll_39 : decode cX4_cutAll 39 = .ok (.bipush 32, 2) := dk_16 32 (dk_at dksX4_cutAll_1 17 rfl rfl)
theorem dX4_cutAll_41 : decode cX4_cutAll 41 = .ok (.if_icmp .ne 9, 3) := dk_160 0 9 (dk_at dksX4_cutAll_1 19 rfl rfl)
theorem dX4_cutAll_44 : decode cX4_cutAll 44 = .ok (.iinc 2 1, 3) := dk_132 2 1 (dk_at dksX4_cutAll_2 0 rfl rfl)
theorem dX4_cutAll_47 : decode cX4_cutAll 47 = .ok (.goto (-30), 3) := dk_167 255 226 (dk_at dksX4_cutAll_2 3 rfl rfl)
theorem dX4_cutAll_50 : decode cX4_cutAll 50 = .ok (.iload_n 2, 1) := dk_28 (dk_at dksX4_cutAll_2 6 rfl rfl)
theorem dX4_cutAll_51 : decode cX4_cutAll 51 = .ok (.istore 4, 2) := dk_54 4 (dk_at dksX4_cutAll_2 7 rfl rfl)
theorem dX4_cutAll_53 : decode cX4_cutAll 53 = .ok (.lconst 0, 1) := dk_9 (dk_at dksX4_cutAll_2 9 rfl rfl)
theorem dX4_cutAll_54 : decode cX4_cutAll 54 = .ok (.lstore 5, 2) := dk_55 5 (dk_at dksX4_cutAll_2 10 rfl rfl)
theorem dX4_cutAll_56 : decode cX4_cutAll 56 = .ok (.aload_n 0, 1) := dk_42 (dk_at dksX4_cutAll_2 12 rfl rfl)
theorem dX4_cutAll_57 : decode cX4_cutAll 57 = .ok (.getfield 27, 3) := dk_180 0 27 (dk_at dksX4_cutAll_2 13 rfl rfl)
theorem dX4_cutAll_60 : decode cX4_cutAll 60 = .ok (.iload_n 1, 1) := dk_27 (dk_at dksX4_cutAll_2 16 rfl rfl)
theorem dX4_cutAll_61 : decode cX4_cutAll 61 = .ok (.iload_n 2, 1) := dk_28 (dk_at dksX4_cutAll_2 17 rfl rfl)
theorem dX4_cutAll_62 : decode cX4_cutAll 62 = .ok (.iastore, 1) := dk_79 (dk_at dksX4_cutAll_2 18 rfl rfl)
theorem dX4_cutAll_63 : decode cX4_cutAll 63 = .ok (.iload_n 3, 1) := dk_29 (dk_at dksX4_cutAll_2 19 rfl rfl)
theorem dX4_cutAll_64 : decode cX4_cutAll 64 = .ok (.invokestatic 234, 3) := dk_184 0 234 (dk_at dksX4_cutAll_2 20 rfl rfl)
theorem dX4_cutAll_67 : decode cX4_cutAll 67 = .ok (.ifCond .eq 85, 3) := dk_153 0 85 (dk_at dksX4_cutAll_3 0 rfl rfl)
theorem dX4_cutAll_70 : decode cX4_cutAll 70 = .ok (.iload_n 2, 1) := dk_28 (dk_at dksX4_cutAll_3 3 rfl rfl)
theorem dX4_cutAll_71 : decode cX4_cutAll 71 = .ok (.aload_n 0, 1) := dk_42 (dk_at dksX4_cutAll_3 4 rfl rfl)
theorem dX4_cutAll_72 : decode cX4_cutAll 72 = .ok (.getfield 238, 3) := dk_180 0 238 (dk_at dksX4_cutAll_3 5 rfl rfl)
theorem dX4_cutAll_75 : decode cX4_cutAll 75 = .ok (.if_icmp .ge 54, 3) := dk_162 0 54 (dk_at dksX4_cutAll_3 8 rfl rfl)
theorem dX4_cutAll_78 : decode cX4_cutAll 78 = .ok (.aload_n 0, 1) := dk_42 (dk_at dksX4_cutAll_3 11 rfl rfl)
theorem dX4_cutAll_79 : decode cX4_cutAll 79 = .ok (.getfield 14, 3) := dk_180 0 14 (dk_at dksX4_cutAll_3 12 rfl rfl)
theorem dX4_cutAll_82 : decode cX4_cutAll 82 = .ok (.iload_n 2, 1) := dk_28 (dk_at dksX4_cutAll_3 15 rfl rfl)
theorem dX4_cutAll_83 : decode cX4_cutAll 83 = .ok (.iaload, 1) := dk_46 (dk_at dksX4_cutAll_3 16 rfl rfl)
theorem dX4_cutAll_84 : decode cX4_cutAll 84 = .ok (.invokestatic 234, 3) := dk_184 0 234 (dk_at dksX4_cutAll_3 17 rfl rfl)
theorem dX4_cutAll_87 : decode cX4_cutAll 87 = .ok (.ifCond .eq 42, 3) := dk_153 0 42 (dk_at dksX4_cutAll_3 20 rfl rfl)
theorem dX4_cutAll_90 : decode cX4_cutAll 90 = .ok (.iload_n 2, 1) := dk_28 (dk_at dksX4_cutAll_3 23 rfl rfl)
theorem dX4_cutAll_91 : decode cX4_cutAll 91 = .ok (.iload 4, 2) := dk_21 4 (dk_at dksX4_cutAll_4 0 rfl rfl)
theorem dX4_cutAll_93 : decode cX4_cutAll 93 = .ok (.isub, 1) := dk_100 (dk_at dksX4_cutAll_4 2 rfl rfl)
theorem dX4_cutAll_94 : decode cX4_cutAll 94 = .ok (.bipush 8, 2) := dk_16 8 (dk_at dksX4_cutAll_4 3 rfl rfl)
theorem dX4_cutAll_96 : decode cX4_cutAll 96 = .ok (.if_icmp .ge 23, 3) := dk_162 0 23 (dk_at dksX4_cutAll_4 5 rfl rfl)
theorem dX4_cutAll_99 : decode cX4_cutAll 99 = .ok (.ldc2_w 241, 3) := dk_20 0 241 (dk_at dksX4_cutAll_4 8 rfl rfl)
theorem dX4_cutAll_102 : decode cX4_cutAll 102 = .ok (.lload 5, 2) := dk_22 5 (dk_at dksX4_cutAll_4 11 rfl rfl)
theorem dX4_cutAll_104 : decode cX4_cutAll 104 = .ok (.lmul, 1) := dk_105 (dk_at dksX4_cutAll_4 13 rfl rfl)
theorem dX4_cutAll_105 : decode cX4_cutAll 105 = .ok (.aload_n 0, 1) := dk_42 (dk_at dksX4_cutAll_4 14 rfl rfl)
theorem dX4_cutAll_106 : decode cX4_cutAll 106 = .ok (.getfield 14, 3) := dk_180 0 14 (dk_at dksX4_cutAll_4 15 rfl rfl)
theorem dX4_cutAll_109 : decode cX4_cutAll 109 = .ok (.iload_n 2, 1) := dk_28 (dk_at dksX4_cutAll_4 18 rfl rfl)
theorem dX4_cutAll_110 : decode cX4_cutAll 110 = .ok (.iaload, 1) := dk_46 (dk_at dksX4_cutAll_4 19 rfl rfl)
theorem dX4_cutAll_111 : decode cX4_cutAll 111 = .ok (.invokestatic 243, 3) := dk_184 0 243 (dk_at dksX4_cutAll_4 20 rfl rfl)
theorem dX4_cutAll_114 : decode cX4_cutAll 114 = .ok (.i2l, 1) := dk_133 (dk_at dksX4_cutAll_4 23 rfl rfl)
theorem dX4_cutAll_115 : decode cX4_cutAll 115 = .ok (.ladd, 1) := dk_97 (dk_at dksX4_cutAll_5 0 rfl rfl)
theorem dX4_cutAll_116 : decode cX4_cutAll 116 = .ok (.goto 5, 3) := dk_167 0 5 (dk_at dksX4_cutAll_5 1 rfl rfl)
theorem dX4_cutAll_119 : decode cX4_cutAll 119 = .ok (.lload 5, 2) := dk_22 5 (dk_at dksX4_cutAll_5 4 rfl rfl)
theorem dX4_cutAll_121 : decode cX4_cutAll 121 = .ok (.lstore 5, 2) := dk_55 5 (dk_at dksX4_cutAll_5 6 rfl rfl)
theorem dX4_cutAll_123 : decode cX4_cutAll 123 = .ok (.iinc 2 1, 3) := dk_132 2 1 (dk_at dksX4_cutAll_5 8 rfl rfl)
theorem dX4_cutAll_126 : decode cX4_cutAll 126 = .ok (.goto (-56), 3) := dk_167 255 200 (dk_at dksX4_cutAll_5 11 rfl rfl)
theorem dX4_cutAll_129 : decode cX4_cutAll 129 = .ok (.aload_n 0, 1) := dk_42 (dk_at dksX4_cutAll_5 14 rfl rfl)
theorem dX4_cutAll_130 : decode cX4_cutAll 130 = .ok (.getfield 24, 3) := dk_180 0 24 (dk_at dksX4_cutAll_5 15 rfl rfl)
theorem dX4_cutAll_133 : decode cX4_cutAll 133 = .ok (.iload_n 1, 1) := dk_27 (dk_at dksX4_cutAll_5 18 rfl rfl)
theorem dX4_cutAll_134 : decode cX4_cutAll 134 = .ok (.iload_n 2, 1) := dk_28 (dk_at dksX4_cutAll_5 19 rfl rfl)
theorem dX4_cutAll_135 : decode cX4_cutAll 135 = .ok (.iload 4, 2) := dk_21 4 (dk_at dksX4_cutAll_5 20 rfl rfl)
theorem dX4_cutAll_137 : decode cX4_cutAll 137 = .ok (.isub, 1) := dk_100 (dk_at dksX4_cutAll_5 22 rfl rfl)
theorem dX4_cutAll_138 : decode cX4_cutAll 138 = .ok (.bipush 8, 2) := dk_16 8 (dk_at dksX4_cutAll_6 0 rfl rfl)
theorem dX4_cutAll_140 : decode cX4_cutAll 140 = .ok (.if_icmp .le 7, 3) := dk_164 0 7 (dk_at dksX4_cutAll_6 2 rfl rfl)
theorem dX4_cutAll_143 : decode cX4_cutAll 143 = .ok (.iconst 4, 1) := dk_7 (dk_at dksX4_cutAll_6 5 rfl rfl)
theorem dX4_cutAll_144 : decode cX4_cutAll 144 = .ok (.goto 4, 3) := dk_167 0 4 (dk_at dksX4_cutAll_6 6 rfl rfl)
theorem dX4_cutAll_147 : decode cX4_cutAll 147 = .ok (.iconst 1, 1) := dk_4 (dk_at dksX4_cutAll_6 9 rfl rfl)
theorem dX4_cutAll_148 : decode cX4_cutAll 148 = .ok (.iastore, 1) := dk_79 (dk_at dksX4_cutAll_6 10 rfl rfl)
theorem dX4_cutAll_149 : decode cX4_cutAll 149 = .ok (.goto 116, 3) := dk_167 0 116 (dk_at dksX4_cutAll_6 11 rfl rfl)
theorem dX4_cutAll_152 : decode cX4_cutAll 152 = .ok (.iload_n 3, 1) := dk_29 (dk_at dksX4_cutAll_6 14 rfl rfl)
theorem dX4_cutAll_153 : decode cX4_cutAll 153 = .ok (.invokestatic 247, 3) := dk_184 0 247 (dk_at dksX4_cutAll_6 15 rfl rfl)
theorem dX4_cutAll_156 : decode cX4_cutAll 156 = .ok (.ifCond .eq 84, 3) := dk_153 0 84 (dk_at dksX4_cutAll_6 18 rfl rfl)
theorem dX4_cutAll_159 : decode cX4_cutAll 159 = .ok (.iload_n 2, 1) := dk_28 (dk_at dksX4_cutAll_6 21 rfl rfl)
theorem dX4_cutAll_160 : decode cX4_cutAll 160 = .ok (.aload_n 0, 1) := dk_42 (dk_at dksX4_cutAll_6 22 rfl rfl)
theorem dX4_cutAll_161 : decode cX4_cutAll 161 = .ok (.getfield 238, 3) := dk_180 0 238 (dk_at dksX4_cutAll_7 0 rfl rfl)
theorem dX4_cutAll_164 : decode cX4_cutAll 164 = .ok (.if_icmp .ge 54, 3) := dk_162 0 54 (dk_at dksX4_cutAll_7 3 rfl rfl)
theorem dX4_cutAll_167 : decode cX4_cutAll 167 = .ok (.aload_n 0, 1) := dk_42 (dk_at dksX4_cutAll_7 6 rfl rfl)
theorem dX4_cutAll_168 : decode cX4_cutAll 168 = .ok (.getfield 14, 3) := dk_180 0 14 (dk_at dksX4_cutAll_7 7 rfl rfl)
theorem dX4_cutAll_171 : decode cX4_cutAll 171 = .ok (.iload_n 2, 1) := dk_28 (dk_at dksX4_cutAll_7 10 rfl rfl)
theorem dX4_cutAll_172 : decode cX4_cutAll 172 = .ok (.iaload, 1) := dk_46 (dk_at dksX4_cutAll_7 11 rfl rfl)
theorem dX4_cutAll_173 : decode cX4_cutAll 173 = .ok (.invokestatic 247, 3) := dk_184 0 247 (dk_at dksX4_cutAll_7 12 rfl rfl)
theorem dX4_cutAll_176 : decode cX4_cutAll 176 = .ok (.ifCond .eq 42, 3) := dk_153 0 42 (dk_at dksX4_cutAll_7 15 rfl rfl)
theorem dX4_cutAll_179 : decode cX4_cutAll 179 = .ok (.iload_n 2, 1) := dk_28 (dk_at dksX4_cutAll_7 18 rfl rfl)
theorem dX4_cutAll_180 : decode cX4_cutAll 180 = .ok (.iload 4, 2) := dk_21 4 (dk_at dksX4_cutAll_7 19 rfl rfl)
theorem dX4_cutAll_182 : decode cX4_cutAll 182 = .ok (.isub, 1) := dk_100 (dk_at dksX4_cutAll_7 21 rfl rfl)
theorem dX4_cutAll_183 : decode cX4_cutAll 183 = .ok (.iconst 4, 1) := dk_7 (dk_at dksX4_cutAll_7 22 rfl rfl)
theorem dX4_cutAll_184 : decode cX4_cutAll 184 = .ok (.if_icmp .ge 24, 3) := dk_162 0 24 (dk_at dksX4_cutAll_8 0 rfl rfl)
theorem dX4_cutAll_187 : decode cX4_cutAll 187 = .ok (.ldc2_w 250, 3) := dk_20 0 250 (dk_at dksX4_cutAll_8 3 rfl rfl)
theorem dX4_cutAll_190 : decode cX4_cutAll 190 = .ok (.lload 5, 2) := dk_22 5 (dk_at dksX4_cutAll_8 6 rfl rfl)
theorem dX4_cutAll_192 : decode cX4_cutAll 192 = .ok (.lmul, 1) := dk_105 (dk_at dksX4_cutAll_8 8 rfl rfl)
theorem dX4_cutAll_193 : decode cX4_cutAll 193 = .ok (.aload_n 0, 1) := dk_42 (dk_at dksX4_cutAll_8 9 rfl rfl)
theorem dX4_cutAll_194 : decode cX4_cutAll 194 = .ok (.getfield 14, 3) := dk_180 0 14 (dk_at dksX4_cutAll_8 10 rfl rfl)
theorem dX4_cutAll_197 : decode cX4_cutAll 197 = .ok (.iload_n 2, 1) := dk_28 (dk_at dksX4_cutAll_8 13 rfl rfl)
theorem dX4_cutAll_198 : decode cX4_cutAll 198 = .ok (.iaload, 1) := dk_46 (dk_at dksX4_cutAll_8 14 rfl rfl)
theorem dX4_cutAll_199 : decode cX4_cutAll 199 = .ok (.i2l, 1) := dk_133 (dk_at dksX4_cutAll_8 15 rfl rfl)
theorem dX4_cutAll_200 : decode cX4_cutAll 200 = .ok (.ladd, 1) := dk_97 (dk_at dksX4_cutAll_8 16 rfl rfl)
theorem dX4_cutAll_201 : decode cX4_cutAll 201 = .ok (.ldc2_w 252, 3) := dk_20 0 252 (dk_at dksX4_cutAll_8 17 rfl rfl)
theorem dX4_cutAll_204 : decode cX4_cutAll 204 = .ok (.lsub, 1) := dk_101 (dk_at dksX4_cutAll_8 20 rfl rfl)
theorem dX4_cutAll_205 : decode cX4_cutAll 205 = .ok (.goto 5, 3) := dk_167 0 5 (dk_at dksX4_cutAll_8 21 rfl rfl)
theorem dX4_cutAll_208 : decode cX4_cutAll 208 = .ok (.lload 5, 2) := dk_22 5 (dk_at dksX4_cutAll_9 0 rfl rfl)
theorem dX4_cutAll_210 : decode cX4_cutAll 210 = .ok (.lstore 5, 2) := dk_55 5 (dk_at dksX4_cutAll_9 2 rfl rfl)
theorem dX4_cutAll_212 : decode cX4_cutAll 212 = .ok (.iinc 2 1, 3) := dk_132 2 1 (dk_at dksX4_cutAll_9 4 rfl rfl)
theorem dX4_cutAll_215 : decode cX4_cutAll 215 = .ok (.goto (-56), 3) := dk_167 255 200 (dk_at dksX4_cutAll_9 7 rfl rfl)
theorem dX4_cutAll_218 : decode cX4_cutAll 218 = .ok (.aload_n 0, 1) := dk_42 (dk_at dksX4_cutAll_9 10 rfl rfl)
theorem dX4_cutAll_219 : decode cX4_cutAll 219 = .ok (.getfield 24, 3) := dk_180 0 24 (dk_at dksX4_cutAll_9 11 rfl rfl)
theorem dX4_cutAll_222 : decode cX4_cutAll 222 = .ok (.iload_n 1, 1) := dk_27 (dk_at dksX4_cutAll_9 14 rfl rfl)
theorem dX4_cutAll_223 : decode cX4_cutAll 223 = .ok (.iload_n 2, 1) := dk_28 (dk_at dksX4_cutAll_9 15 rfl rfl)
theorem dX4_cutAll_224 : decode cX4_cutAll 224 = .ok (.iload 4, 2) := dk_21 4 (dk_at dksX4_cutAll_9 16 rfl rfl)
theorem dX4_cutAll_226 : decode cX4_cutAll 226 = .ok (.isub, 1) := dk_100 (dk_at dksX4_cutAll_9 18 rfl rfl)
theorem dX4_cutAll_227 : decode cX4_cutAll 227 = .ok (.iconst 4, 1) := dk_7 (dk_at dksX4_cutAll_9 19 rfl rfl)
theorem dX4_cutAll_228 : decode cX4_cutAll 228 = .ok (.if_icmp .le 7, 3) := dk_164 0 7 (dk_at dksX4_cutAll_9 20 rfl rfl)
theorem dX4_cutAll_231 : decode cX4_cutAll 231 = .ok (.iconst 4, 1) := dk_7 (dk_at dksX4_cutAll_9 23 rfl rfl)
theorem dX4_cutAll_232 : decode cX4_cutAll 232 = .ok (.goto 4, 3) := dk_167 0 4 (dk_at dksX4_cutAll_10 0 rfl rfl)
theorem dX4_cutAll_235 : decode cX4_cutAll 235 = .ok (.iconst 2, 1) := dk_5 (dk_at dksX4_cutAll_10 3 rfl rfl)
theorem dX4_cutAll_236 : decode cX4_cutAll 236 = .ok (.iastore, 1) := dk_79 (dk_at dksX4_cutAll_10 4 rfl rfl)
theorem dX4_cutAll_237 : decode cX4_cutAll 237 = .ok (.goto 28, 3) := dk_167 0 28 (dk_at dksX4_cutAll_10 5 rfl rfl)
theorem dX4_cutAll_240 : decode cX4_cutAll 240 = .ok (.iload_n 3, 1) := dk_29 (dk_at dksX4_cutAll_10 8 rfl rfl)
theorem dX4_cutAll_241 : decode cX4_cutAll 241 = .ok (.i2l, 1) := dk_133 (dk_at dksX4_cutAll_10 9 rfl rfl)
theorem dX4_cutAll_242 : decode cX4_cutAll 242 = .ok (.lstore 5, 2) := dk_55 5 (dk_at dksX4_cutAll_10 10 rfl rfl)
theorem dX4_cutAll_244 : decode cX4_cutAll 244 = .ok (.aload_n 0, 1) := dk_42 (dk_at dksX4_cutAll_10 12 rfl rfl)
theorem dX4_cutAll_245 : decode cX4_cutAll 245 = .ok (.getfield 24, 3) := dk_180 0 24 (dk_at dksX4_cutAll_10 13 rfl rfl)
theorem dX4_cutAll_248 : decode cX4_cutAll 248 = .ok (.iload_n 1, 1) := dk_27 (dk_at dksX4_cutAll_10 16 rfl rfl)
theorem dX4_cutAll_249 : decode cX4_cutAll 249 = .ok (.iload_n 3, 1) := dk_29 (dk_at dksX4_cutAll_10 17 rfl rfl)
theorem dX4_cutAll_250 : decode cX4_cutAll 250 = .ok (.invokestatic 254, 3) := dk_184 0 254 (dk_at dksX4_cutAll_10 18 rfl rfl)
theorem dX4_cutAll_253 : decode cX4_cutAll 253 = .ok (.ifCond .eq 7, 3) := dk_153 0 7 (dk_at dksX4_cutAll_10 21 rfl rfl)
theorem dX4_cutAll_256 : decode cX4_cutAll 256 = .ok (.iconst 3, 1) := dk_6 (dk_at dksX4_cutAll_11 0 rfl rfl)
theorem dX4_cutAll_257 : decode cX4_cutAll 257 = .ok (.goto 4, 3) := dk_167 0 4 (dk_at dksX4_cutAll_11 1 rfl rfl)
theorem dX4_cutAll_260 : decode cX4_cutAll 260 = .ok (.iconst 4, 1) := dk_7 (dk_at dksX4_cutAll_11 4 rfl rfl)
theorem dX4_cutAll_261 : decode cX4_cutAll 261 = .ok (.iastore, 1) := dk_79 (dk_at dksX4_cutAll_11 5 rfl rfl)
theorem dX4_cutAll_262 : decode cX4_cutAll 262 = .ok (.iinc 2 1, 3) := dk_132 2 1 (dk_at dksX4_cutAll_11 6 rfl rfl)
theorem dX4_cutAll_265 : decode cX4_cutAll 265 = .ok (.aload_n 0, 1) := dk_42 (dk_at dksX4_cutAll_11 9 rfl rfl)
theorem dX4_cutAll_266 : decode cX4_cutAll 266 = .ok (.getfield 30, 3) := dk_180 0 30 (dk_at dksX4_cutAll_11 10 rfl rfl)
theorem dX4_cutAll_269 : decode cX4_cutAll 269 = .ok (.iload_n 1, 1) := dk_27 (dk_at dksX4_cutAll_11 13 rfl rfl)
theorem dX4_cutAll_270 : decode cX4_cutAll 270 = .ok (.lload 5, 2) := dk_22 5 (dk_at dksX4_cutAll_11 14 rfl rfl)
theorem dX4_cutAll_272 : decode cX4_cutAll 272 = .ok (.lastore, 1) := dk_80 (dk_at dksX4_cutAll_11 16 rfl rfl)
theorem dX4_cutAll_273 : decode cX4_cutAll 273 = .ok (.iinc 1 1, 3) := dk_132 1 1 (dk_at dksX4_cutAll_11 17 rfl rfl)
theorem dX4_cutAll_276 : decode cX4_cutAll 276 = .ok (.goto (-259), 3) := dk_167 254 253 (dk_at dksX4_cutAll_11 20 rfl rfl)
theorem dX4_cutAll_279 : decode cX4_cutAll 279 = .ok (.aload_n 0, 1) := dk_42 (dk_at dksX4_cutAll_11 23 rfl rfl)
theorem dX4_cutAll_280 : decode cX4_cutAll 280 = .ok (.getfield 24, 3) := dk_180 0 24 (dk_at dksX4_cutAll_12 0 rfl rfl)
theorem dX4_cutAll_283 : decode cX4_cutAll 283 = .ok (.iload_n 1, 1) := dk_27 (dk_at dksX4_cutAll_12 3 rfl rfl)
theorem dX4_cutAll_284 : decode cX4_cutAll 284 = .ok (.iconst 0, 1) := dk_3 (dk_at dksX4_cutAll_12 4 rfl rfl)
theorem dX4_cutAll_285 : decode cX4_cutAll 285 = .ok (.iastore, 1) := dk_79 (dk_at dksX4_cutAll_12 5 rfl rfl)
theorem dX4_cutAll_286 : decode cX4_cutAll 286 = .ok (.aload_n 0, 1) := dk_42 (dk_at dksX4_cutAll_12 6 rfl rfl)
theorem dX4_cutAll_287 : decode cX4_cutAll 287 = .ok (.getfield 27, 3) := dk_180 0 27 (dk_at dksX4_cutAll_12 7 rfl rfl)
theorem dX4_cutAll_290 : decode cX4_cutAll 290 = .ok (.iload_n 1, 1) := dk_27 (dk_at dksX4_cutAll_12 10 rfl rfl)
theorem dX4_cutAll_291 : decode cX4_cutAll 291 = .ok (.aload_n 0, 1) := dk_42 (dk_at dksX4_cutAll_12 11 rfl rfl)
theorem dX4_cutAll_292 : decode cX4_cutAll 292 = .ok (.getfield 238, 3) := dk_180 0 238 (dk_at dksX4_cutAll_12 12 rfl rfl)
theorem dX4_cutAll_295 : decode cX4_cutAll 295 = .ok (.iastore, 1) := dk_79 (dk_at dksX4_cutAll_12 15 rfl rfl)
theorem dX4_cutAll_296 : decode cX4_cutAll 296 = .ok (.aload_n 0, 1) := dk_42 (dk_at dksX4_cutAll_12 16 rfl rfl)
theorem dX4_cutAll_297 : decode cX4_cutAll 297 = .ok (.iconst 0, 1) := dk_3 (dk_at dksX4_cutAll_12 17 rfl rfl)
theorem dX4_cutAll_298 : decode cX4_cutAll 298 = .ok (.putfield 257, 3) := dk_181 1 1 (dk_at dksX4_cutAll_12 18 rfl rfl)
theorem dX4_cutAll_301 : decode cX4_cutAll 301 = .ok (.aload_n 0, 1) := dk_42 (dk_at dksX4_cutAll_12 21 rfl rfl)
theorem dX4_cutAll_302 : decode cX4_cutAll 302 = .ok (.iconst 0, 1) := dk_3 (dk_at dksX4_cutAll_12 22 rfl rfl)
theorem dX4_cutAll_303 : decode cX4_cutAll 303 = .ok (.putfield 260, 3) := dk_181 1 4 (dk_at dksX4_cutAll_13 0 rfl rfl)
theorem dX4_cutAll_306 : decode cX4_cutAll 306 = .ok (.return_, 1) := dk_177 (dk_at dksX4_cutAll_13 3 rfl rfl)
abbrev cX4_isLetter : ByteArray := prog_21_method_5_code
def yX4_isLetter : MethodName := ⟨RX4, "isLetter", "(I)Z"⟩
def dkwX4_isLetter_0 : List UInt8 := [26, 16, 97, 161, 0, 13, 26, 16, 122, 163, 0, 7, 4, 167, 0, 4, 3, 172]
abbrev dktX4_isLetter_0 : List UInt8 := dkwX4_isLetter_0 ++ []
theorem dksX4_isLetter_0 : cX4_isLetter.data.toList.drop 0 = dktX4_isLetter_0 := by decide +kernel
theorem dX4_isLetter_0 : decode cX4_isLetter 0 = .ok (.iload_n 0, 1) := dk_26 (dk_at dksX4_isLetter_0 0 rfl rfl)
theorem dX4_isLetter_1 : decode cX4_isLetter 1 = .ok (.bipush 97, 2) := dk_16 97 (dk_at dksX4_isLetter_0 1 rfl rfl)
theorem dX4_isLetter_3 : decode cX4_isLetter 3 = .ok (.if_icmp .lt 13, 3) := dk_161 0 13 (dk_at dksX4_isLetter_0 3 rfl rfl)
theorem dX4_isLetter_6 : decode cX4_isLetter 6 = .ok (.iload_n 0, 1) := dk_26 (dk_at dksX4_isLetter_0 6 rfl rfl)
theorem dX4_isLetter_7 : decode cX4_isLetter 7 = .ok (.bipush 122, 2) := dk_16 122 (dk_at dksX4_isLetter_0 7 rfl rfl)
theorem dX4_isLetter_9 : decode cX4_isLetter 9 = .ok (.if_icmp .gt 7, 3) := dk_163 0 7 (dk_at dksX4_isLetter_0 9 rfl rfl)
theorem dX4_isLetter_12 : decode cX4_isLetter 12 = .ok (.iconst 1, 1) := dk_4 (dk_at dksX4_isLetter_0 12 rfl rfl)
theorem dX4_isLetter_13 : decode cX4_isLetter 13 = .ok (.goto 4, 3) := dk_167 0 4 (dk_at dksX4_isLetter_0 13 rfl rfl)
theorem dX4_isLetter_16 : decode cX4_isLetter 16 = .ok (.iconst 0, 1) := dk_3 (dk_at dksX4_isLetter_0 16 rfl rfl)
theorem dX4_isLetter_17 : decode cX4_isLetter 17 = .ok (.ireturn, 1) := dk_172 (dk_at dksX4_isLetter_0 17 rfl rfl)
abbrev cX4_rank : ByteArray := prog_21_method_7_code
def yX4_rank : MethodName := ⟨RX4, "rank", "(I)I"⟩
def dkwX4_rank_0 : List UInt8 := [26, 184, 0, 234, 153, 0, 10, 26, 16, 96, 100, 167, 0, 7, 26, 16, 21, 100, 172]
abbrev dktX4_rank_0 : List UInt8 := dkwX4_rank_0 ++ []
theorem dksX4_rank_0 : cX4_rank.data.toList.drop 0 = dktX4_rank_0 := by decide +kernel
theorem dX4_rank_0 : decode cX4_rank 0 = .ok (.iload_n 0, 1) := dk_26 (dk_at dksX4_rank_0 0 rfl rfl)
theorem dX4_rank_1 : decode cX4_rank 1 = .ok (.invokestatic 234, 3) := dk_184 0 234 (dk_at dksX4_rank_0 1 rfl rfl)
theorem dX4_rank_4 : decode cX4_rank 4 = .ok (.ifCond .eq 10, 3) := dk_153 0 10 (dk_at dksX4_rank_0 4 rfl rfl)
theorem dX4_rank_7 : decode cX4_rank 7 = .ok (.iload_n 0, 1) := dk_26 (dk_at dksX4_rank_0 7 rfl rfl)
theorem dX4_rank_8 : decode cX4_rank 8 = .ok (.bipush 96, 2) := dk_16 96 (dk_at dksX4_rank_0 8 rfl rfl)
theorem dX4_rank_10 : decode cX4_rank 10 = .ok (.isub, 1) := dk_100 (dk_at dksX4_rank_0 10 rfl rfl)
theorem dX4_rank_11 : decode cX4_rank 11 = .ok (.goto 7, 3) := dk_167 0 7 (dk_at dksX4_rank_0 11 rfl rfl)
theorem dX4_rank_14 : decode cX4_rank 14 = .ok (.iload_n 0, 1) := dk_26 (dk_at dksX4_rank_0 14 rfl rfl)
theorem dX4_rank_15 : decode cX4_rank 15 = .ok (.bipush 21, 2) := dk_16 21 (dk_at dksX4_rank_0 15 rfl rfl)
theorem dX4_rank_17 : decode cX4_rank 17 = .ok (.isub, 1) := dk_100 (dk_at dksX4_rank_0 17 rfl rfl)
theorem dX4_rank_18 : decode cX4_rank 18 = .ok (.ireturn, 1) := dk_172 (dk_at dksX4_rank_0 18 rfl rfl)
abbrev cX4_isDigit : ByteArray := prog_21_method_6_code
def yX4_isDigit : MethodName := ⟨RX4, "isDigit", "(I)Z"⟩
def dkwX4_isDigit_0 : List UInt8 := [26, 16, 48, 161, 0, 13, 26, 16, 57, 163, 0, 7, 4, 167, 0, 4, 3, 172]
abbrev dktX4_isDigit_0 : List UInt8 := dkwX4_isDigit_0 ++ []
theorem dksX4_isDigit_0 : cX4_isDigit.data.toList.drop 0 = dktX4_isDigit_0 := by decide +kernel
theorem dX4_isDigit_0 : decode cX4_isDigit 0 = .ok (.iload_n 0, 1) := dk_26 (dk_at dksX4_isDigit_0 0 rfl rfl)
theorem dX4_isDigit_1 : decode cX4_isDigit 1 = .ok (.bipush 48, 2) := dk_16 48 (dk_at dksX4_isDigit_0 1 rfl rfl)
theorem dX4_isDigit_3 : decode cX4_isDigit 3 = .ok (.if_icmp .lt 13, 3) := dk_161 0 13 (dk_at dksX4_isDigit_0 3 rfl rfl)
theorem dX4_isDigit_6 : decode cX4_isDigit 6 = .ok (.iload_n 0, 1) := dk_26 (dk_at dksX4_isDigit_0 6 rfl rfl)
theorem dX4_isDigit_7 : decode cX4_isDigit 7 = .ok (.bipush 57, 2) := dk_16 57 (dk_at dksX4_isDigit_0 7 rfl rfl)
theorem dX4_isDigit_9 : decode cX4_isDigit 9 = .ok (.if_icmp .gt 7, 3) := dk_163 0 7 (dk_at dksX4_isDigit_0 9 rfl rfl)
theorem dX4_isDigit_12 : decode cX4_isDigit 12 = .ok (.iconst 1, 1) := dk_4 (dk_at dksX4_isDigit_0 12 rfl rfl)
theorem dX4_isDigit_13 : decode cX4_isDigit 13 = .ok (.goto 4, 3) := dk_167 0 4 (dk_at dksX4_isDigit_0 13 rfl rfl)
theorem dX4_isDigit_16 : decode cX4_isDigit 16 = .ok (.iconst 0, 1) := dk_3 (dk_at dksX4_isDigit_0 16 rfl rfl)
theorem dX4_isDigit_17 : decode cX4_isDigit 17 = .ok (.ireturn, 1) := dk_172 (dk_at dksX4_isDigit_0 17 rfl rfl)
abbrev cX4_isSignOf : ByteArray := prog_21_method_8_code
def yX4_isSignOf : MethodName := ⟨RX4, "isSignOf", "(I)Z"⟩
def dkwX4_isSignOf_2 : List UInt8 := [4, 167, 0, 4, 3, 172]
abbrev dktX4_isSignOf_2 : List UInt8 := dkwX4_isSignOf_2 ++ []
def dkwX4_isSignOf_1 : List UInt8 := [26, 16, 60, 159, 0, 21, 26, 16, 43, 159, 0, 15, 26, 16, 45, 159, 0, 9, 26, 16, 42, 160, 0, 7]
abbrev dktX4_isSignOf_1 : List UInt8 := dkwX4_isSignOf_1 ++ dktX4_isSignOf_2
def dkwX4_isSignOf_0 : List UInt8 := [26, 16, 40, 159, 0, 45, 26, 16, 41, 159, 0, 39, 26, 16, 59, 159, 0, 33, 26, 16, 61, 159, 0, 27]
abbrev dktX4_isSignOf_0 : List UInt8 := dkwX4_isSignOf_0 ++ dktX4_isSignOf_1
theorem dksX4_isSignOf_0 : cX4_isSignOf.data.toList.drop 0 = dktX4_isSignOf_0 := by decide +kernel
theorem dksX4_isSignOf_1 : cX4_isSignOf.data.toList.drop 24 = dktX4_isSignOf_1 := dk_seg dksX4_isSignOf_0 24 rfl rfl
theorem dksX4_isSignOf_2 : cX4_isSignOf.data.toList.drop 48 = dktX4_isSignOf_2 := dk_seg dksX4_isSignOf_1 24 rfl rfl
theorem dX4_isSignOf_0 : decode cX4_isSignOf 0 = .ok (.iload_n 0, 1) := dk_26 (dk_at dksX4_isSignOf_0 0 rfl rfl)
theorem dX4_isSignOf_1 : decode cX4_isSignOf 1 = .ok (.bipush 40, 2) := dk_16 40 (dk_at dksX4_isSignOf_0 1 rfl rfl)
theorem dX4_isSignOf_3 : decode cX4_isSignOf 3 = .ok (.if_icmp .eq 45, 3) := dk_159 0 45 (dk_at dksX4_isSignOf_0 3 rfl rfl)
theorem dX4_isSignOf_6 : decode cX4_isSignOf 6 = .ok (.iload_n 0, 1) := dk_26 (dk_at dksX4_isSignOf_0 6 rfl rfl)
theorem dX4_isSignOf_7 : decode cX4_isSignOf 7 = .ok (.bipush 41, 2) := dk_16 41 (dk_at dksX4_isSignOf_0 7 rfl rfl)
theorem dX4_isSignOf_9 : decode cX4_isSignOf 9 = .ok (.if_icmp .eq 39, 3) := dk_159 0 39 (dk_at dksX4_isSignOf_0 9 rfl rfl)
theorem dX4_isSignOf_12 : decode cX4_isSignOf 12 = .ok (.iload_n 0, 1) := dk_26 (dk_at dksX4_isSignOf_0 12 rfl rfl)
theorem dX4_isSignOf_13 : decode cX4_isSignOf 13 = .ok (.bipush 59, 2) := dk_16 59 (dk_at dksX4_isSignOf_0 13 rfl rfl)
theorem dX4_isSignOf_15 : decode cX4_isSignOf 15 = .ok (.if_icmp .eq 33, 3) := dk_159 0 33 (dk_at dksX4_isSignOf_0 15 rfl rfl)
theorem dX4_isSignOf_18 : decode cX4_isSignOf 18 = .ok (.iload_n 0, 1) := dk_26 (dk_at dksX4_isSignOf_0 18 rfl rfl)
theorem dX4_isSignOf_19 : decode cX4_isSignOf 19 = .ok (.bipush 61, 2) := dk_16 61 (dk_at dksX4_isSignOf_0 19 rfl rfl)
theorem dX4_isSignOf_21 : decode cX4_isSignOf 21 = .ok (.if_icmp .eq 27, 3) := dk_159 0 27 (dk_at dksX4_isSignOf_0 21 rfl rfl)
theorem dX4_isSignOf_24 : decode cX4_isSignOf 24 = .ok (.iload_n 0, 1) := dk_26 (dk_at dksX4_isSignOf_1 0 rfl rfl)
theorem dX4_isSignOf_25 : decode cX4_isSignOf 25 = .ok (.bipush 60, 2) := dk_16 60 (dk_at dksX4_isSignOf_1 1 rfl rfl)
theorem dX4_isSignOf_27 : decode cX4_isSignOf 27 = .ok (.if_icmp .eq 21, 3) := dk_159 0 21 (dk_at dksX4_isSignOf_1 3 rfl rfl)
theorem dX4_isSignOf_30 : decode cX4_isSignOf 30 = .ok (.iload_n 0, 1) := dk_26 (dk_at dksX4_isSignOf_1 6 rfl rfl)
theorem dX4_isSignOf_31 : decode cX4_isSignOf 31 = .ok (.bipush 43, 2) := dk_16 43 (dk_at dksX4_isSignOf_1 7 rfl rfl)
theorem dX4_isSignOf_33 : decode cX4_isSignOf 33 = .ok (.if_icmp .eq 15, 3) := dk_159 0 15 (dk_at dksX4_isSignOf_1 9 rfl rfl)
theorem dX4_isSignOf_36 : decode cX4_isSignOf 36 = .ok (.iload_n 0, 1) := dk_26 (dk_at dksX4_isSignOf_1 12 rfl rfl)
theorem dX4_isSignOf_37 : decode cX4_isSignOf 37 = .ok (.bipush 45, 2) := dk_16 45 (dk_at dksX4_isSignOf_1 13 rfl rfl)
theorem dX4_isSignOf_39 : decode cX4_isSignOf 39 = .ok (.if_icmp .eq 9, 3) := dk_159 0 9 (dk_at dksX4_isSignOf_1 15 rfl rfl)
theorem dX4_isSignOf_42 : decode cX4_isSignOf 42 = .ok (.iload_n 0, 1) := dk_26 (dk_at dksX4_isSignOf_1 18 rfl rfl)
theorem dX4_isSignOf_43 : decode cX4_isSignOf 43 = .ok (.bipush 42, 2) := dk_16 42 (dk_at dksX4_isSignOf_1 19 rfl rfl)
theorem dX4_isSignOf_45 : decode cX4_isSignOf 45 = .ok (.if_icmp .ne 7, 3) := dk_160 0 7 (dk_at dksX4_isSignOf_1 21 rfl rfl)
theorem dX4_isSignOf_48 : decode cX4_isSignOf 48 = .ok (.iconst 1, 1) := dk_4 (dk_at dksX4_isSignOf_2 0 rfl rfl)
theorem dX4_isSignOf_49 : decode cX4_isSignOf 49 = .ok (.goto 4, 3) := dk_167 0 4 (dk_at dksX4_isSignOf_2 1 rfl rfl)
theorem dX4_isSignOf_52 : decode cX4_isSignOf 52 = .ok (.iconst 0, 1) := dk_3 (dk_at dksX4_isSignOf_2 4 rfl rfl)
theorem dX4_isSignOf_53 : decode cX4_isSignOf 53 = .ok (.ireturn, 1) := dk_172 (dk_at dksX4_isSignOf_2 5 rfl rfl)
abbrev cX4_readLine : ByteArray := prog_21_method_23_code
def yX4_readLine : MethodName := ⟨RX4, "readLine", "()V"⟩
def dkwX4_readLine_11 : List UInt8 := [42, 16, 59, 182, 1, 55, 177]
abbrev dktX4_readLine_11 : List UInt8 := dkwX4_readLine_11 ++ []
def dkwX4_readLine_10 : List UInt8 := [182, 1, 52, 42, 180, 0, 88, 27, 42, 182, 1, 48, 79, 42, 180, 0, 76, 16, 16, 92, 46, 4, 96, 79]
abbrev dktX4_readLine_10 : List UInt8 := dkwX4_readLine_10 ++ dktX4_readLine_11
def dkwX4_readLine_9 : List UInt8 := [79, 42, 180, 0, 79, 27, 46, 4, 159, 0, 13, 42, 180, 0, 79, 27, 46, 6, 160, 0, 18, 42, 7]
abbrev dktX4_readLine_9 : List UInt8 := dkwX4_readLine_9 ++ dktX4_readLine_10
def dkwX4_readLine_8 : List UInt8 := [180, 0, 82, 27, 42, 17, 39, 15, 182, 1, 45, 79, 167, 0, 13, 42, 180, 0, 85, 27, 42, 182, 1, 48]
abbrev dktX4_readLine_8 : List UInt8 := dkwX4_readLine_8 ++ dktX4_readLine_9
def dkwX4_readLine_7 : List UInt8 := [154, 0, 11, 42, 27, 182, 1, 42, 167, 0, 39, 42, 180, 0, 79, 27, 46, 6, 160, 0, 19, 42]
abbrev dktX4_readLine_7 : List UInt8 := dkwX4_readLine_7 ++ dktX4_readLine_8
def dkwX4_readLine_6 : List UInt8 := [180, 0, 88, 27, 17, 75, 0, 79, 42, 89, 180, 1, 1, 4, 96, 181, 1, 1, 42, 180, 0, 79, 27, 46]
abbrev dktX4_readLine_6 : List UInt8 := dkwX4_readLine_6 ++ dktX4_readLine_7
def dkwX4_readLine_5 : List UInt8 := [167, 0, 4, 6, 79, 42, 180, 0, 82, 27, 3, 79, 42, 180, 0, 85, 27, 17, 75, 0, 79, 42]
abbrev dktX4_readLine_5 : List UInt8 := dkwX4_readLine_5 ++ dktX4_readLine_6
def dkwX4_readLine_4 : List UInt8 := [167, 0, 28, 42, 4, 182, 1, 14, 153, 0, 7, 4, 167, 0, 16, 42, 5, 182, 1, 14, 153, 0, 7, 5]
abbrev dktX4_readLine_4 : List UInt8 := dkwX4_readLine_4 ++ dktX4_readLine_5
def dkwX4_readLine_3 : List UInt8 := [180, 0, 76, 16, 16, 46, 96, 60, 42, 180, 0, 79, 27, 42, 3, 182, 1, 14, 153, 0, 7, 3]
abbrev dktX4_readLine_3 : List UInt8 := dkwX4_readLine_3 ++ dktX4_readLine_4
def dkwX4_readLine_2 : List UInt8 := [16, 16, 160, 0, 8, 42, 8, 182, 1, 10, 42, 180, 1, 4, 158, 0, 4, 177, 17, 1, 0, 42]
abbrev dktX4_readLine_2 : List UInt8 := dkwX4_readLine_2 ++ dktX4_readLine_3
def dkwX4_readLine_1 : List UInt8 := [42, 6, 182, 1, 14, 154, 0, 11, 42, 4, 182, 1, 10, 167, 0, 20, 42, 180, 0, 76, 16, 16, 46]
abbrev dktX4_readLine_1 : List UInt8 := dkwX4_readLine_1 ++ dktX4_readLine_2
def dkwX4_readLine_0 : List UInt8 := [42, 3, 182, 1, 14, 154, 0, 35, 42, 4, 182, 1, 14, 154, 0, 27, 42, 5, 182, 1, 14, 154, 0, 19]
abbrev dktX4_readLine_0 : List UInt8 := dkwX4_readLine_0 ++ dktX4_readLine_1
theorem dksX4_readLine_0 : cX4_readLine.data.toList.drop 0 = dktX4_readLine_0 := by decide +kernel
theorem dksX4_readLine_1 : cX4_readLine.data.toList.drop 24 = dktX4_readLine_1 := dk_seg dksX4_readLine_0 24 rfl rfl
theorem dksX4_readLine_2 : cX4_readLine.data.toList.drop 47 = dktX4_readLine_2 := dk_seg dksX4_readLine_1 23 rfl rfl
theorem dksX4_readLine_3 : cX4_readLine.data.toList.drop 69 = dktX4_readLine_3 := dk_seg dksX4_readLine_2 22 rfl rfl
theorem dksX4_readLine_4 : cX4_readLine.data.toList.drop 91 = dktX4_readLine_4 := dk_seg dksX4_readLine_3 22 rfl rfl
theorem dksX4_readLine_5 : cX4_readLine.data.toList.drop 115 = dktX4_readLine_5 := dk_seg dksX4_readLine_4 24 rfl rfl
theorem dksX4_readLine_6 : cX4_readLine.data.toList.drop 137 = dktX4_readLine_6 := dk_seg dksX4_readLine_5 22 rfl rfl
theorem dksX4_readLine_7 : cX4_readLine.data.toList.drop 161 = dktX4_readLine_7 := dk_seg dksX4_readLine_6 24 rfl rfl
theorem dksX4_readLine_8 : cX4_readLine.data.toList.drop 183 = dktX4_readLine_8 := dk_seg dksX4_readLine_7 22 rfl rfl
theorem dksX4_readLine_9 : cX4_readLine.data.toList.drop 207 = dktX4_readLine_9 := dk_seg dksX4_readLine_8 24 rfl rfl
theorem dksX4_readLine_10 : cX4_readLine.data.toList.drop 230 = dktX4_readLine_10 := dk_seg dksX4_readLine_9 23 rfl rfl
theorem dksX4_readLine_11 : cX4_readLine.data.toList.drop 254 = dktX4_readLine_11 := dk_seg dksX4_readLine_10 24 rfl rfl
theorem dX4_readLine_0 : decode cX4_readLine 0 = .ok (.aload_n 0, 1) := dk_42 (dk_at dksX4_readLine_0 0 rfl rfl)
theorem dX4_readLine_1 : decode cX4_readLine 1 = .ok (.iconst 0, 1) := dk_3 (dk_at dksX4_readLine_0 1 rfl rfl)
theorem dX4_readLine_2 : decode cX4_readLine 2 = .ok (.invokevirtual 270, 3) := dk_182 1 14 (dk_at dksX4_readLine_0 2 rfl rfl)
theorem dX4_readLine_5 : decode cX4_readLine 5 = .ok (.ifCond .ne 35, 3) := dk_154 0 35 (dk_at dksX4_readLine_0 5 rfl rfl)
theorem dX4_readLine_8 : decode cX4_readLine 8 = .ok (.aload_n 0, 1) := dk_42 (dk_at dksX4_readLine_0 8 rfl rfl)
theorem dX4_readLine_9 : decode cX4_readLine 9 = .ok (.iconst 1, 1) := dk_4 (dk_at dksX4_readLine_0 9 rfl rfl)
theorem dX4_readLine_10 : decode cX4_readLine 10 = .ok (.invokevirtual 270, 3) := dk_182 1 14 (dk_at dksX4_readLine_0 10 rfl rfl)
theorem dX4_readLine_13 : decode cX4_readLine 13 = .ok (.ifCond .ne 27, 3) := dk_154 0 27 (dk_at dksX4_readLine_0 13 rfl rfl)
theorem dX4_readLine_16 : decode cX4_readLine 16 = .ok (.aload_n 0, 1) := dk_42 (dk_at dksX4_readLine_0 16 rfl rfl)
theorem dX4_readLine_17 : decode cX4_readLine 17 = .ok (.iconst 2, 1) := dk_5 (dk_at dksX4_readLine_0 17 rfl rfl)
theorem dX4_readLine_18 : decode cX4_readLine 18 = .ok (.invokevirtual 270, 3) := dk_182 1 14 (dk_at dksX4_readLine_0 18 rfl rfl)
theorem dX4_readLine_21 : decode cX4_readLine 21 = .ok (.ifCond .ne 19, 3) := dk_154 0 19 (dk_at dksX4_readLine_0 21 rfl rfl)
theorem dX4_readLine_24 : decode cX4_readLine 24 = .ok (.aload_n 0, 1) := dk_42 (dk_at dksX4_readLine_1 0 rfl rfl)
theorem dX4_readLine_25 : decode cX4_readLine 25 = .ok (.iconst 3, 1) := dk_6 (dk_at dksX4_readLine_1 1 rfl rfl)
theorem dX4_readLine_26 : decode cX4_readLine 26 = .ok (.invokevirtual 270, 3) := dk_182 1 14 (dk_at dksX4_readLine_1 2 rfl rfl)
theorem dX4_readLine_29 : decode cX4_readLine 29 = .ok (.ifCond .ne 11, 3) := dk_154 0 11 (dk_at dksX4_readLine_1 5 rfl rfl)
theorem dX4_readLine_32 : decode cX4_readLine 32 = .ok (.aload_n 0, 1) := dk_42 (dk_at dksX4_readLine_1 8 rfl rfl)
theorem dX4_readLine_33 : decode cX4_readLine 33 = .ok (.iconst 1, 1) := dk_4 (dk_at dksX4_readLine_1 9 rfl rfl)
theorem dX4_readLine_34 : decode cX4_readLine 34 = .ok (.invokevirtual 266, 3) := dk_182 1 10 (dk_at dksX4_readLine_1 10 rfl rfl)
theorem dX4_readLine_37 : decode cX4_readLine 37 = .ok (.goto 20, 3) := dk_167 0 20 (dk_at dksX4_readLine_1 13 rfl rfl)
theorem dX4_readLine_40 : decode cX4_readLine 40 = .ok (.aload_n 0, 1) := dk_42 (dk_at dksX4_readLine_1 16 rfl rfl)
theorem dX4_readLine_41 : decode cX4_readLine 41 = .ok (.getfield 76, 3) := dk_180 0 76 (dk_at dksX4_readLine_1 17 rfl rfl)
theorem dX4_readLine_44 : decode cX4_readLine 44 = .ok (.bipush 16, 2) := dk_16 16 (dk_at dksX4_readLine_1 20 rfl rfl)
theorem dX4_readLine_46 : decode cX4_readLine 46 = .ok (.iaload, 1) := dk_46 (dk_at dksX4_readLine_1 22 rfl rfl)
theorem dX4_readLine_47 : decode cX4_readLine 47 = .ok (.bipush 16, 2) := dk_16 16 (dk_at dksX4_readLine_2 0 rfl rfl)
theorem dX4_readLine_49 : decode cX4_readLine 49 = .ok (.if_icmp .ne 8, 3) := dk_160 0 8 (dk_at dksX4_readLine_2 2 rfl rfl)
theorem dX4_readLine_52 : decode cX4_readLine 52 = .ok (.aload_n 0, 1) := dk_42 (dk_at dksX4_readLine_2 5 rfl rfl)
theorem dX4_readLine_53 : decode cX4_readLine 53 = .ok (.iconst 5, 1) := dk_8 (dk_at dksX4_readLine_2 6 rfl rfl)
theorem dX4_readLine_54 : decode cX4_readLine 54 = .ok (.invokevirtual 266, 3) := dk_182 1 10 (dk_at dksX4_readLine_2 7 rfl rfl)
theorem dX4_readLine_57 : decode cX4_readLine 57 = .ok (.aload_n 0, 1) := dk_42 (dk_at dksX4_readLine_2 10 rfl rfl)
theorem dX4_readLine_58 : decode cX4_readLine 58 = .ok (.getfield 260, 3) := dk_180 1 4 (dk_at dksX4_readLine_2 11 rfl rfl)
theorem dX4_readLine_61 : decode cX4_readLine 61 = .ok (.ifCond .le 4, 3) := dk_158 0 4 (dk_at dksX4_readLine_2 14 rfl rfl)
theorem dX4_readLine_64 : decode cX4_readLine 64 = .ok (.return_, 1) := dk_177 (dk_at dksX4_readLine_2 17 rfl rfl)
theorem dX4_readLine_65 : decode cX4_readLine 65 = .ok (.sipush 256, 3) := dk_17 1 0 (dk_at dksX4_readLine_2 18 rfl rfl)
theorem dX4_readLine_68 : decode cX4_readLine 68 = .ok (.aload_n 0, 1) := dk_42 (dk_at dksX4_readLine_2 21 rfl rfl)
theorem dX4_readLine_69 : decode cX4_readLine 69 = .ok (.getfield 76, 3) := dk_180 0 76 (dk_at dksX4_readLine_3 0 rfl rfl)
theorem dX4_readLine_72 : decode cX4_readLine 72 = .ok (.bipush 16, 2) := dk_16 16 (dk_at dksX4_readLine_3 3 rfl rfl)
theorem dX4_readLine_74 : decode cX4_readLine 74 = .ok (.iaload, 1) := dk_46 (dk_at dksX4_readLine_3 5 rfl rfl)
theorem dX4_readLine_75 : decode cX4_readLine 75 = .ok (.iadd, 1) := dk_96 (dk_at dksX4_readLine_3 6 rfl rfl)
theorem dX4_readLine_76 : decode cX4_readLine 76 = .ok (.istore_n 1, 1) := dk_60 (dk_at dksX4_readLine_3 7 rfl rfl)
theorem dX4_readLine_77 : decode cX4_readLine 77 = .ok (.aload_n 0, 1) := dk_42 (dk_at dksX4_readLine_3 8 rfl rfl)
theorem dX4_readLine_78 : decode cX4_readLine 78 = .ok (.getfield 79, 3) := dk_180 0 79 (dk_at dksX4_readLine_3 9 rfl rfl)
theorem dX4_readLine_81 : decode cX4_readLine 81 = .ok (.iload_n 1, 1) := dk_27 (dk_at dksX4_readLine_3 12 rfl rfl)
theorem dX4_readLine_82 : decode cX4_readLine 82 = .ok (.aload_n 0, 1) := dk_42 (dk_at dksX4_readLine_3 13 rfl rfl)
theorem dX4_readLine_83 : decode cX4_readLine 83 = .ok (.iconst 0, 1) := dk_3 (dk_at dksX4_readLine_3 14 rfl rfl)
theorem dX4_readLine_84 : decode cX4_readLine 84 = .ok (.invokevirtual 270, 3) := dk_182 1 14 (dk_at dksX4_readLine_3 15 rfl rfl)
theorem dX4_readLine_87 : decode cX4_readLine 87 = .ok (.ifCond .eq 7, 3) := dk_153 0 7 (dk_at dksX4_readLine_3 18 rfl rfl)
theorem dX4_readLine_90 : decode cX4_readLine 90 = .ok (.iconst 0, 1) := dk_3 (dk_at dksX4_readLine_3 21 rfl rfl)
theorem dX4_readLine_91 : decode cX4_readLine 91 = .ok (.goto 28, 3) := dk_167 0 28 (dk_at dksX4_readLine_4 0 rfl rfl)
theorem dX4_readLine_94 : decode cX4_readLine 94 = .ok (.aload_n 0, 1) := dk_42 (dk_at dksX4_readLine_4 3 rfl rfl)
theorem dX4_readLine_95 : decode cX4_readLine 95 = .ok (.iconst 1, 1) := dk_4 (dk_at dksX4_readLine_4 4 rfl rfl)
theorem dX4_readLine_96 : decode cX4_readLine 96 = .ok (.invokevirtual 270, 3) := dk_182 1 14 (dk_at dksX4_readLine_4 5 rfl rfl)
theorem dX4_readLine_99 : decode cX4_readLine 99 = .ok (.ifCond .eq 7, 3) := dk_153 0 7 (dk_at dksX4_readLine_4 8 rfl rfl)
theorem dX4_readLine_102 : decode cX4_readLine 102 = .ok (.iconst 1, 1) := dk_4 (dk_at dksX4_readLine_4 11 rfl rfl)
theorem dX4_readLine_103 : decode cX4_readLine 103 = .ok (.goto 16, 3) := dk_167 0 16 (dk_at dksX4_readLine_4 12 rfl rfl)
theorem dX4_readLine_106 : decode cX4_readLine 106 = .ok (.aload_n 0, 1) := dk_42 (dk_at dksX4_readLine_4 15 rfl rfl)
theorem dX4_readLine_107 : decode cX4_readLine 107 = .ok (.iconst 2, 1) := dk_5 (dk_at dksX4_readLine_4 16 rfl rfl)
theorem dX4_readLine_108 : decode cX4_readLine 108 = .ok (.invokevirtual 270, 3) := dk_182 1 14 (dk_at dksX4_readLine_4 17 rfl rfl)
theorem dX4_readLine_111 : decode cX4_readLine 111 = .ok (.ifCond .eq 7, 3) := dk_153 0 7 (dk_at dksX4_readLine_4 20 rfl rfl)
theorem dX4_readLine_114 : decode cX4_readLine 114 = .ok (.iconst 2, 1) := dk_5 (dk_at dksX4_readLine_4 23 rfl rfl)
theorem dX4_readLine_115 : decode cX4_readLine 115 = .ok (.goto 4, 3) := dk_167 0 4 (dk_at dksX4_readLine_5 0 rfl rfl)
theorem dX4_readLine_118 : decode cX4_readLine 118 = .ok (.iconst 3, 1) := dk_6 (dk_at dksX4_readLine_5 3 rfl rfl)
theorem dX4_readLine_119 : decode cX4_readLine 119 = .ok (.iastore, 1) := dk_79 (dk_at dksX4_readLine_5 4 rfl rfl)
theorem dX4_readLine_120 : decode cX4_readLine 120 = .ok (.aload_n 0, 1) := dk_42 (dk_at dksX4_readLine_5 5 rfl rfl)
theorem dX4_readLine_121 : decode cX4_readLine 121 = .ok (.getfield 82, 3) := dk_180 0 82 (dk_at dksX4_readLine_5 6 rfl rfl)
theorem dX4_readLine_124 : decode cX4_readLine 124 = .ok (.iload_n 1, 1) := dk_27 (dk_at dksX4_readLine_5 9 rfl rfl)
theorem dX4_readLine_125 : decode cX4_readLine 125 = .ok (.iconst 0, 1) := dk_3 (dk_at dksX4_readLine_5 10 rfl rfl)
theorem dX4_readLine_126 : decode cX4_readLine 126 = .ok (.iastore, 1) := dk_79 (dk_at dksX4_readLine_5 11 rfl rfl)
theorem dX4_readLine_127 : decode cX4_readLine 127 = .ok (.aload_n 0, 1) := dk_42 (dk_at dksX4_readLine_5 12 rfl rfl)
theorem dX4_readLine_128 : decode cX4_readLine 128 = .ok (.getfield 85, 3) := dk_180 0 85 (dk_at dksX4_readLine_5 13 rfl rfl)
theorem dX4_readLine_131 : decode cX4_readLine 131 = .ok (.iload_n 1, 1) := dk_27 (dk_at dksX4_readLine_5 16 rfl rfl)
theorem dX4_readLine_132 : decode cX4_readLine 132 = .ok (.sipush 19200, 3) := dk_17 75 0 (dk_at dksX4_readLine_5 17 rfl rfl)
theorem dX4_readLine_135 : decode cX4_readLine 135 = .ok (.iastore, 1) := dk_79 (dk_at dksX4_readLine_5 20 rfl rfl)
theorem dX4_readLine_136 : decode cX4_readLine 136 = .ok (.aload_n 0, 1) := dk_42 (dk_at dksX4_readLine_5 21 rfl rfl)
theorem dX4_readLine_137 : decode cX4_readLine 137 = .ok (.getfield 88, 3) := dk_180 0 88 (dk_at dksX4_readLine_6 0 rfl rfl)
theorem dX4_readLine_140 : decode cX4_readLine 140 = .ok (.iload_n 1, 1) := dk_27 (dk_at dksX4_readLine_6 3 rfl rfl)
theorem dX4_readLine_141 : decode cX4_readLine 141 = .ok (.sipush 19200, 3) := dk_17 75 0 (dk_at dksX4_readLine_6 4 rfl rfl)
theorem dX4_readLine_144 : decode cX4_readLine 144 = .ok (.iastore, 1) := dk_79 (dk_at dksX4_readLine_6 7 rfl rfl)
theorem dX4_readLine_145 : decode cX4_readLine 145 = .ok (.aload_n 0, 1) := dk_42 (dk_at dksX4_readLine_6 8 rfl rfl)
theorem dX4_readLine_146 : decode cX4_readLine 146 = .ok (.dup, 1) := dk_89 (dk_at dksX4_readLine_6 9 rfl rfl)
theorem dX4_readLine_147 : decode cX4_readLine 147 = .ok (.getfield 257, 3) := dk_180 1 1 (dk_at dksX4_readLine_6 10 rfl rfl)
theorem dX4_readLine_150 : decode cX4_readLine 150 = .ok (.iconst 1, 1) := dk_4 (dk_at dksX4_readLine_6 13 rfl rfl)
theorem dX4_readLine_151 : decode cX4_readLine 151 = .ok (.iadd, 1) := dk_96 (dk_at dksX4_readLine_6 14 rfl rfl)
theorem dX4_readLine_152 : decode cX4_readLine 152 = .ok (.putfield 257, 3) := dk_181 1 1 (dk_at dksX4_readLine_6 15 rfl rfl)
theorem dX4_readLine_155 : decode cX4_readLine 155 = .ok (.aload_n 0, 1) := dk_42 (dk_at dksX4_readLine_6 18 rfl rfl)
theorem dX4_readLine_156 : decode cX4_readLine 156 = .ok (.getfield 79, 3) := dk_180 0 79 (dk_at dksX4_readLine_6 19 rfl rfl)
theorem dX4_readLine_159 : decode cX4_readLine 159 = .ok (.iload_n 1, 1) := dk_27 (dk_at dksX4_readLine_6 22 rfl rfl)
theorem dX4_readLine_160 : decode cX4_readLine 160 = .ok (.iaload, 1) := dk_46 (dk_at dksX4_readLine_6 23 rfl rfl)
theorem dX4_readLine_161 : decode cX4_readLine 161 = .ok (.ifCond .ne 11, 3) := dk_154 0 11 (dk_at dksX4_readLine_7 0 rfl rfl)
theorem dX4_readLine_164 : decode cX4_readLine 164 = .ok (.aload_n 0, 1) := dk_42 (dk_at dksX4_readLine_7 3 rfl rfl)
theorem dX4_readLine_165 : decode cX4_readLine 165 = .ok (.iload_n 1, 1) := dk_27 (dk_at dksX4_readLine_7 4 rfl rfl)
theorem dX4_readLine_166 : decode cX4_readLine 166 = .ok (.invokevirtual 298, 3) := dk_182 1 42 (dk_at dksX4_readLine_7 5 rfl rfl)
theorem dX4_readLine_169 : decode cX4_readLine 169 = .ok (.goto 39, 3) := dk_167 0 39 (dk_at dksX4_readLine_7 8 rfl rfl)
theorem dX4_readLine_172 : decode cX4_readLine 172 = .ok (.aload_n 0, 1) := dk_42 (dk_at dksX4_readLine_7 11 rfl rfl)
theorem dX4_readLine_173 : decode cX4_readLine 173 = .ok (.getfield 79, 3) := dk_180 0 79 (dk_at dksX4_readLine_7 12 rfl rfl)
theorem dX4_readLine_176 : decode cX4_readLine 176 = .ok (.iload_n 1, 1) := dk_27 (dk_at dksX4_readLine_7 15 rfl rfl)
theorem dX4_readLine_177 : decode cX4_readLine 177 = .ok (.iaload, 1) := dk_46 (dk_at dksX4_readLine_7 16 rfl rfl)
theorem dX4_readLine_178 : decode cX4_readLine 178 = .ok (.iconst 3, 1) := dk_6 (dk_at dksX4_readLine_7 17 rfl rfl)
theorem dX4_readLine_179 : decode cX4_readLine 179 = .ok (.if_icmp .ne 19, 3) := dk_160 0 19 (dk_at dksX4_readLine_7 18 rfl rfl)
theorem dX4_readLine_182 : decode cX4_readLine 182 = .ok (.aload_n 0, 1) := dk_42 (dk_at dksX4_readLine_7 21 rfl rfl)
theorem dX4_readLine_183 : decode cX4_readLine 183 = .ok (.getfield 82, 3) := dk_180 0 82 (dk_at dksX4_readLine_8 0 rfl rfl)
theorem dX4_readLine_186 : decode cX4_readLine 186 = .ok (.iload_n 1, 1) := dk_27 (dk_at dksX4_readLine_8 3 rfl rfl)
theorem dX4_readLine_187 : decode cX4_readLine 187 = .ok (.aload_n 0, 1) := dk_42 (dk_at dksX4_readLine_8 4 rfl rfl)
theorem dX4_readLine_188 : decode cX4_readLine 188 = .ok (.sipush 9999, 3) := dk_17 39 15 (dk_at dksX4_readLine_8 5 rfl rfl)
theorem dX4_readLine_191 : decode cX4_readLine 191 = .ok (.invokevirtual 301, 3) := dk_182 1 45 (dk_at dksX4_readLine_8 8 rfl rfl)
theorem dX4_readLine_194 : decode cX4_readLine 194 = .ok (.iastore, 1) := dk_79 (dk_at dksX4_readLine_8 11 rfl rfl)
theorem dX4_readLine_195 : decode cX4_readLine 195 = .ok (.goto 13, 3) := dk_167 0 13 (dk_at dksX4_readLine_8 12 rfl rfl)
theorem dX4_readLine_198 : decode cX4_readLine 198 = .ok (.aload_n 0, 1) := dk_42 (dk_at dksX4_readLine_8 15 rfl rfl)
theorem dX4_readLine_199 : decode cX4_readLine 199 = .ok (.getfield 85, 3) := dk_180 0 85 (dk_at dksX4_readLine_8 16 rfl rfl)
theorem dX4_readLine_202 : decode cX4_readLine 202 = .ok (.iload_n 1, 1) := dk_27 (dk_at dksX4_readLine_8 19 rfl rfl)
theorem dX4_readLine_203 : decode cX4_readLine 203 = .ok (.aload_n 0, 1) := dk_42 (dk_at dksX4_readLine_8 20 rfl rfl)
theorem dX4_readLine_204 : decode cX4_readLine 204 = .ok (.invokevirtual 304, 3) := dk_182 1 48 (dk_at dksX4_readLine_8 21 rfl rfl)
theorem dX4_readLine_207 : decode cX4_readLine 207 = .ok (.iastore, 1) := dk_79 (dk_at dksX4_readLine_9 0 rfl rfl)
theorem dX4_readLine_208 : decode cX4_readLine 208 = .ok (.aload_n 0, 1) := dk_42 (dk_at dksX4_readLine_9 1 rfl rfl)
theorem dX4_readLine_209 : decode cX4_readLine 209 = .ok (.getfield 79, 3) := dk_180 0 79 (dk_at dksX4_readLine_9 2 rfl rfl)
theorem dX4_readLine_212 : decode cX4_readLine 212 = .ok (.iload_n 1, 1) := dk_27 (dk_at dksX4_readLine_9 5 rfl rfl)
theorem dX4_readLine_213 : decode cX4_readLine 213 = .ok (.iaload, 1) := dk_46 (dk_at dksX4_readLine_9 6 rfl rfl)
theorem dX4_readLine_214 : decode cX4_readLine 214 = .ok (.iconst 1, 1) := dk_4 (dk_at dksX4_readLine_9 7 rfl rfl)
theorem dX4_readLine_215 : decode cX4_readLine 215 = .ok (.if_icmp .eq 13, 3) := dk_159 0 13 (dk_at dksX4_readLine_9 8 rfl rfl)
theorem dX4_readLine_218 : decode cX4_readLine 218 = .ok (.aload_n 0, 1) := dk_42 (dk_at dksX4_readLine_9 11 rfl rfl)
theorem dX4_readLine_219 : decode cX4_readLine 219 = .ok (.getfield 79, 3) := dk_180 0 79 (dk_at dksX4_readLine_9 12 rfl rfl)
theorem dX4_readLine_222 : decode cX4_readLine 222 = .ok (.iload_n 1, 1) := dk_27 (dk_at dksX4_readLine_9 15 rfl rfl)
theorem dX4_readLine_223 : decode cX4_readLine 223 = .ok (.iaload, 1) := dk_46 (dk_at dksX4_readLine_9 16 rfl rfl)
theorem dX4_readLine_224 : decode cX4_readLine 224 = .ok (.iconst 3, 1) := dk_6 (dk_at dksX4_readLine_9 17 rfl rfl)
theorem dX4_readLine_225 : decode cX4_readLine 225 = .ok (.if_icmp .ne 18, 3) := dk_160 0 18 (dk_at dksX4_readLine_9 18 rfl rfl)
theorem dX4_readLine_228 : decode cX4_readLine 228 = .ok (.aload_n 0, 1) := dk_42 (dk_at dksX4_readLine_9 21 rfl rfl)
theorem dX4_readLine_229 : decode cX4_readLine 229 = .ok (.iconst 4, 1) := dk_7 (dk_at dksX4_readLine_9 22 rfl rfl)
theorem dX4_readLine_230 : decode cX4_readLine 230 = .ok (.invokevirtual 308, 3) := dk_182 1 52 (dk_at dksX4_readLine_10 0 rfl rfl)
theorem dX4_readLine_233 : decode cX4_readLine 233 = .ok (.aload_n 0, 1) := dk_42 (dk_at dksX4_readLine_10 3 rfl rfl)
theorem dX4_readLine_234 : decode cX4_readLine 234 = .ok (.getfield 88, 3) := dk_180 0 88 (dk_at dksX4_readLine_10 4 rfl rfl)
theorem dX4_readLine_237 : decode cX4_readLine 237 = .ok (.iload_n 1, 1) := dk_27 (dk_at dksX4_readLine_10 7 rfl rfl)
theorem dX4_readLine_238 : decode cX4_readLine 238 = .ok (.aload_n 0, 1) := dk_42 (dk_at dksX4_readLine_10 8 rfl rfl)
theorem dX4_readLine_239 : decode cX4_readLine 239 = .ok (.invokevirtual 304, 3) := dk_182 1 48 (dk_at dksX4_readLine_10 9 rfl rfl)
theorem dX4_readLine_242 : decode cX4_readLine 242 = .ok (.iastore, 1) := dk_79 (dk_at dksX4_readLine_10 12 rfl rfl)
theorem dX4_readLine_243 : decode cX4_readLine 243 = .ok (.aload_n 0, 1) := dk_42 (dk_at dksX4_readLine_10 13 rfl rfl)
theorem dX4_readLine_244 : decode cX4_readLine 244 = .ok (.getfield 76, 3) := dk_180 0 76 (dk_at dksX4_readLine_10 14 rfl rfl)
theorem dX4_readLine_247 : decode cX4_readLine 247 = .ok (.bipush 16, 2) := dk_16 16 (dk_at dksX4_readLine_10 17 rfl rfl)
theorem dX4_readLine_249 : decode cX4_readLine 249 = .ok (.dup2, 1) := dk_92 (dk_at dksX4_readLine_10 19 rfl rfl)
theorem dX4_readLine_250 : decode cX4_readLine 250 = .ok (.iaload, 1) := dk_46 (dk_at dksX4_readLine_10 20 rfl rfl)
theorem dX4_readLine_251 : decode cX4_readLine 251 = .ok (.iconst 1, 1) := dk_4 (dk_at dksX4_readLine_10 21 rfl rfl)
theorem dX4_readLine_252 : decode cX4_readLine 252 = .ok (.iadd, 1) := dk_96 (dk_at dksX4_readLine_10 22 rfl rfl)
theorem dX4_readLine_253 : decode cX4_readLine 253 = .ok (.iastore, 1) := dk_79 (dk_at dksX4_readLine_10 23 rfl rfl)
theorem dX4_readLine_254 : decode cX4_readLine 254 = .ok (.aload_n 0, 1) := dk_42 (dk_at dksX4_readLine_11 0 rfl rfl)
theorem dX4_readLine_255 : decode cX4_readLine 255 = .ok (.bipush 59, 2) := dk_16 59 (dk_at dksX4_readLine_11 1 rfl rfl)
theorem dX4_readLine_257 : decode cX4_readLine 257 = .ok (.invokevirtual 311, 3) := dk_182 1 55 (dk_at dksX4_readLine_11 3 rfl rfl)
theorem dX4_readLine_260 : decode cX4_readLine 260 = .ok (.return_, 1) := dk_177 (dk_at dksX4_readLine_11 6 rfl rfl)
abbrev cX4_isWord : ByteArray := prog_21_method_12_code
def yX4_isWord : MethodName := ⟨RX4, "isWord", "(I)Z"⟩
def dkwX4_isWord_1 : List UInt8 := [42, 180, 1, 1, 47, 42, 180, 0, 64, 27, 47, 148, 154, 0, 7, 4, 167, 0, 4, 3, 172]
abbrev dktX4_isWord_1 : List UInt8 := dkwX4_isWord_1 ++ []
def dkwX4_isWord_0 : List UInt8 := [42, 180, 1, 4, 154, 0, 39, 42, 180, 0, 24, 42, 180, 1, 1, 46, 4, 160, 0, 26, 42, 180, 0, 30]
abbrev dktX4_isWord_0 : List UInt8 := dkwX4_isWord_0 ++ dktX4_isWord_1
theorem dksX4_isWord_0 : cX4_isWord.data.toList.drop 0 = dktX4_isWord_0 := by decide +kernel
theorem dksX4_isWord_1 : cX4_isWord.data.toList.drop 24 = dktX4_isWord_1 := dk_seg dksX4_isWord_0 24 rfl rfl
theorem dX4_isWord_0 : decode cX4_isWord 0 = .ok (.aload_n 0, 1) := dk_42 (dk_at dksX4_isWord_0 0 rfl rfl)
theorem dX4_isWord_1 : decode cX4_isWord 1 = .ok (.getfield 260, 3) := dk_180 1 4 (dk_at dksX4_isWord_0 1 rfl rfl)
theorem dX4_isWord_4 : decode cX4_isWord 4 = .ok (.ifCond .ne 39, 3) := dk_154 0 39 (dk_at dksX4_isWord_0 4 rfl rfl)
theorem dX4_isWord_7 : decode cX4_isWord 7 = .ok (.aload_n 0, 1) := dk_42 (dk_at dksX4_isWord_0 7 rfl rfl)
theorem dX4_isWord_8 : decode cX4_isWord 8 = .ok (.getfield 24, 3) := dk_180 0 24 (dk_at dksX4_isWord_0 8 rfl rfl)
theorem dX4_isWord_11 : decode cX4_isWord 11 = .ok (.aload_n 0, 1) := dk_42 (dk_at dksX4_isWord_0 11 rfl rfl)
theorem dX4_isWord_12 : decode cX4_isWord 12 = .ok (.getfield 257, 3) := dk_180 1 1 (dk_at dksX4_isWord_0 12 rfl rfl)
theorem dX4_isWord_15 : decode cX4_isWord 15 = .ok (.iaload, 1) := dk_46 (dk_at dksX4_isWord_0 15 rfl rfl)
theorem dX4_isWord_16 : decode cX4_isWord 16 = .ok (.iconst 1, 1) := dk_4 (dk_at dksX4_isWord_0 16 rfl rfl)
theorem dX4_isWord_17 : decode cX4_isWord 17 = .ok (.if_icmp .ne 26, 3) := dk_160 0 26 (dk_at dksX4_isWord_0 17 rfl rfl)
theorem dX4_isWord_20 : decode cX4_isWord 20 = .ok (.aload_n 0, 1) := dk_42 (dk_at dksX4_isWord_0 20 rfl rfl)
theorem dX4_isWord_21 : decode cX4_isWord 21 = .ok (.getfield 30, 3) := dk_180 0 30 (dk_at dksX4_isWord_0 21 rfl rfl)
theorem dX4_isWord_24 : decode cX4_isWord 24 = .ok (.aload_n 0, 1) := dk_42 (dk_at dksX4_isWord_1 0 rfl rfl)
theorem dX4_isWord_25 : decode cX4_isWord 25 = .ok (.getfield 257, 3) := dk_180 1 1 (dk_at dksX4_isWord_1 1 rfl rfl)
theorem dX4_isWord_28 : decode cX4_isWord 28 = .ok (.laload, 1) := dk_47 (dk_at dksX4_isWord_1 4 rfl rfl)
theorem dX4_isWord_29 : decode cX4_isWord 29 = .ok (.aload_n 0, 1) := dk_42 (dk_at dksX4_isWord_1 5 rfl rfl)
theorem dX4_isWord_30 : decode cX4_isWord 30 = .ok (.getfield 64, 3) := dk_180 0 64 (dk_at dksX4_isWord_1 6 rfl rfl)
theorem dX4_isWord_33 : decode cX4_isWord 33 = .ok (.iload_n 1, 1) := dk_27 (dk_at dksX4_isWord_1 9 rfl rfl)
theorem dX4_isWord_34 : decode cX4_isWord 34 = .ok (.laload, 1) := dk_47 (dk_at dksX4_isWord_1 10 rfl rfl)
theorem dX4_isWord_35 : decode cX4_isWord 35 = .ok (.lcmp, 1) := dk_148 (dk_at dksX4_isWord_1 11 rfl rfl)
theorem dX4_isWord_36 : decode cX4_isWord 36 = .ok (.ifCond .ne 7, 3) := dk_154 0 7 (dk_at dksX4_isWord_1 12 rfl rfl)
theorem dX4_isWord_39 : decode cX4_isWord 39 = .ok (.iconst 1, 1) := dk_4 (dk_at dksX4_isWord_1 15 rfl rfl)
theorem dX4_isWord_40 : decode cX4_isWord 40 = .ok (.goto 4, 3) := dk_167 0 4 (dk_at dksX4_isWord_1 16 rfl rfl)
theorem dX4_isWord_43 : decode cX4_isWord 43 = .ok (.iconst 0, 1) := dk_3 (dk_at dksX4_isWord_1 19 rfl rfl)
theorem dX4_isWord_44 : decode cX4_isWord 44 = .ok (.ireturn, 1) := dk_172 (dk_at dksX4_isWord_1 20 rfl rfl)
abbrev cX4_wrong : ByteArray := prog_21_method_10_code
def yX4_wrong : MethodName := ⟨RX4, "wrong", "(I)V"⟩
def dkwX4_wrong_1 : List UInt8 := [181, 1, 4, 177]
abbrev dktX4_wrong_1 : List UInt8 := dkwX4_wrong_1 ++ []
def dkwX4_wrong_0 : List UInt8 := [42, 180, 1, 4, 154, 0, 21, 42, 27, 16, 16, 42, 180, 0, 27, 42, 180, 1, 1, 46, 104, 96]
abbrev dktX4_wrong_0 : List UInt8 := dkwX4_wrong_0 ++ dktX4_wrong_1
theorem dksX4_wrong_0 : cX4_wrong.data.toList.drop 0 = dktX4_wrong_0 := by decide +kernel
theorem dksX4_wrong_1 : cX4_wrong.data.toList.drop 22 = dktX4_wrong_1 := dk_seg dksX4_wrong_0 22 rfl rfl
theorem dX4_wrong_0 : decode cX4_wrong 0 = .ok (.aload_n 0, 1) := dk_42 (dk_at dksX4_wrong_0 0 rfl rfl)
theorem dX4_wrong_1 : decode cX4_wrong 1 = .ok (.getfield 260, 3) := dk_180 1 4 (dk_at dksX4_wrong_0 1 rfl rfl)
theorem dX4_wrong_4 : decode cX4_wrong 4 = .ok (.ifCond .ne 21, 3) := dk_154 0 21 (dk_at dksX4_wrong_0 4 rfl rfl)
theorem dX4_wrong_7 : decode cX4_wrong 7 = .ok (.aload_n 0, 1) := dk_42 (dk_at dksX4_wrong_0 7 rfl rfl)
theorem dX4_wrong_8 : decode cX4_wrong 8 = .ok (.iload_n 1, 1) := dk_27 (dk_at dksX4_wrong_0 8 rfl rfl)
theorem dX4_wrong_9 : decode cX4_wrong 9 = .ok (.bipush 16, 2) := dk_16 16 (dk_at dksX4_wrong_0 9 rfl rfl)
theorem dX4_wrong_11 : decode cX4_wrong 11 = .ok (.aload_n 0, 1) := dk_42 (dk_at dksX4_wrong_0 11 rfl rfl)
theorem dX4_wrong_12 : decode cX4_wrong 12 = .ok (.getfield 27, 3) := dk_180 0 27 (dk_at dksX4_wrong_0 12 rfl rfl)
theorem dX4_wrong_15 : decode cX4_wrong 15 = .ok (.aload_n 0, 1) := dk_42 (dk_at dksX4_wrong_0 15 rfl rfl)
theorem dX4_wrong_16 : decode cX4_wrong 16 = .ok (.getfield 257, 3) := dk_180 1 1 (dk_at dksX4_wrong_0 16 rfl rfl)
theorem dX4_wrong_19 : decode cX4_wrong 19 = .ok (.iaload, 1) := dk_46 (dk_at dksX4_wrong_0 19 rfl rfl)
theorem dX4_wrong_20 : decode cX4_wrong 20 = .ok (.imul, 1) := dk_104 (dk_at dksX4_wrong_0 20 rfl rfl)
theorem dX4_wrong_21 : decode cX4_wrong 21 = .ok (.iadd, 1) := dk_96 (dk_at dksX4_wrong_0 21 rfl rfl)
theorem dX4_wrong_22 : decode cX4_wrong 22 = .ok (.putfield 260, 3) := dk_181 1 4 (dk_at dksX4_wrong_1 0 rfl rfl)
theorem dX4_wrong_25 : decode cX4_wrong 25 = .ok (.return_, 1) := dk_177 (dk_at dksX4_wrong_1 3 rfl rfl)
abbrev cX4_readLet : ByteArray := prog_21_method_24_code
def yX4_readLet : MethodName := ⟨RX4, "readLet", "(I)V"⟩
def dkwX4_readLet_4 : List UInt8 := [180, 0, 91, 42, 180, 1, 29, 32, 80, 42, 89, 180, 1, 29, 4, 96, 181, 1, 29, 177]
abbrev dktX4_readLet_4 : List UInt8 := dkwX4_readLet_4 ++ []
def dkwX4_readLet_3 : List UInt8 := [42, 16, 61, 182, 1, 55, 42, 180, 0, 85, 27, 42, 182, 1, 48, 79, 42, 180, 1, 4, 154, 0, 23, 42]
abbrev dktX4_readLet_3 : List UInt8 := dkwX4_readLet_3 ++ dktX4_readLet_4
def dkwX4_readLet_2 : List UInt8 := [158, 0, 4, 177, 42, 180, 0, 30, 42, 180, 1, 1, 47, 65, 42, 89, 180, 1, 1, 4, 96, 181, 1, 1]
abbrev dktX4_readLet_2 : List UInt8 := dkwX4_readLet_2 ++ dktX4_readLet_3
def dkwX4_readLet_1 : List UInt8 := [182, 1, 10, 167, 0, 17, 42, 180, 1, 29, 16, 8, 160, 0, 8, 42, 8, 182, 1, 10, 42, 180, 1, 4]
abbrev dktX4_readLet_1 : List UInt8 := dkwX4_readLet_1 ++ dktX4_readLet_2
def dkwX4_readLet_0 : List UInt8 := [42, 182, 1, 58, 154, 0, 11, 42, 4, 182, 1, 10, 167, 0, 32, 42, 182, 1, 62, 155, 0, 11, 42, 6]
abbrev dktX4_readLet_0 : List UInt8 := dkwX4_readLet_0 ++ dktX4_readLet_1
theorem dksX4_readLet_0 : cX4_readLet.data.toList.drop 0 = dktX4_readLet_0 := by decide +kernel
theorem dksX4_readLet_1 : cX4_readLet.data.toList.drop 24 = dktX4_readLet_1 := dk_seg dksX4_readLet_0 24 rfl rfl
theorem dksX4_readLet_2 : cX4_readLet.data.toList.drop 48 = dktX4_readLet_2 := dk_seg dksX4_readLet_1 24 rfl rfl
theorem dksX4_readLet_3 : cX4_readLet.data.toList.drop 72 = dktX4_readLet_3 := dk_seg dksX4_readLet_2 24 rfl rfl
theorem dksX4_readLet_4 : cX4_readLet.data.toList.drop 96 = dktX4_readLet_4 := dk_seg dksX4_readLet_3 24 rfl rfl
theorem dX4_readLet_0 : decode cX4_readLet 0 = .ok (.aload_n 0, 1) := dk_42 (dk_at dksX4_readLet_0 0 rfl rfl)
theorem dX4_readLet_1 : decode cX4_readLet 1 = .ok (.invokevirtual 314, 3) := dk_182 1 58 (dk_at dksX4_readLet_0 1 rfl rfl)
theorem dX4_readLet_4 : decode cX4_readLet 4 = .ok (.ifCond .ne 11, 3) := dk_154 0 11 (dk_at dksX4_readLet_0 4 rfl rfl)
theorem dX4_readLet_7 : decode cX4_readLet 7 = .ok (.aload_n 0, 1) := dk_42 (dk_at dksX4_readLet_0 7 rfl rfl)
theorem dX4_readLet_8 : decode cX4_readLet 8 = .ok (.iconst 1, 1) := dk_4 (dk_at dksX4_readLet_0 8 rfl rfl)
theorem dX4_readLet_9 : decode cX4_readLet 9 = .ok (.invokevirtual 266, 3) := dk_182 1 10 (dk_at dksX4_readLet_0 9 rfl rfl)
theorem dX4_readLet_12 : decode cX4_readLet 12 = .ok (.goto 32, 3) := dk_167 0 32 (dk_at dksX4_readLet_0 12 rfl rfl)
theorem dX4_readLet_15 : decode cX4_readLet 15 = .ok (.aload_n 0, 1) := dk_42 (dk_at dksX4_readLet_0 15 rfl rfl)
theorem dX4_readLet_16 : decode cX4_readLet 16 = .ok (.invokevirtual 318, 3) := dk_182 1 62 (dk_at dksX4_readLet_0 16 rfl rfl)
theorem dX4_readLet_19 : decode cX4_readLet 19 = .ok (.ifCond .lt 11, 3) := dk_155 0 11 (dk_at dksX4_readLet_0 19 rfl rfl)
theorem dX4_readLet_22 : decode cX4_readLet 22 = .ok (.aload_n 0, 1) := dk_42 (dk_at dksX4_readLet_0 22 rfl rfl)
theorem dX4_readLet_23 : decode cX4_readLet 23 = .ok (.iconst 3, 1) := dk_6 (dk_at dksX4_readLet_0 23 rfl rfl)
theorem dX4_readLet_24 : decode cX4_readLet 24 = .ok (.invokevirtual 266, 3) := dk_182 1 10 (dk_at dksX4_readLet_1 0 rfl rfl)
theorem dX4_readLet_27 : decode cX4_readLet 27 = .ok (.goto 17, 3) := dk_167 0 17 (dk_at dksX4_readLet_1 3 rfl rfl)
theorem dX4_readLet_30 : decode cX4_readLet 30 = .ok (.aload_n 0, 1) := dk_42 (dk_at dksX4_readLet_1 6 rfl rfl)
theorem dX4_readLet_31 : decode cX4_readLet 31 = .ok (.getfield 285, 3) := dk_180 1 29 (dk_at dksX4_readLet_1 7 rfl rfl)
theorem dX4_readLet_34 : decode cX4_readLet 34 = .ok (.bipush 8, 2) := dk_16 8 (dk_at dksX4_readLet_1 10 rfl rfl)
theorem dX4_readLet_36 : decode cX4_readLet 36 = .ok (.if_icmp .ne 8, 3) := dk_160 0 8 (dk_at dksX4_readLet_1 12 rfl rfl)
theorem dX4_readLet_39 : decode cX4_readLet 39 = .ok (.aload_n 0, 1) := dk_42 (dk_at dksX4_readLet_1 15 rfl rfl)
theorem dX4_readLet_40 : decode cX4_readLet 40 = .ok (.iconst 5, 1) := dk_8 (dk_at dksX4_readLet_1 16 rfl rfl)
theorem dX4_readLet_41 : decode cX4_readLet 41 = .ok (.invokevirtual 266, 3) := dk_182 1 10 (dk_at dksX4_readLet_1 17 rfl rfl)
theorem dX4_readLet_44 : decode cX4_readLet 44 = .ok (.aload_n 0, 1) := dk_42 (dk_at dksX4_readLet_1 20 rfl rfl)
theorem dX4_readLet_45 : decode cX4_readLet 45 = .ok (.getfield 260, 3) := dk_180 1 4 (dk_at dksX4_readLet_1 21 rfl rfl)
theorem dX4_readLet_48 : decode cX4_readLet 48 = .ok (.ifCond .le 4, 3) := dk_158 0 4 (dk_at dksX4_readLet_2 0 rfl rfl)
theorem dX4_readLet_51 : decode cX4_readLet 51 = .ok (.return_, 1) := dk_177 (dk_at dksX4_readLet_2 3 rfl rfl)
theorem dX4_readLet_52 : decode cX4_readLet 52 = .ok (.aload_n 0, 1) := dk_42 (dk_at dksX4_readLet_2 4 rfl rfl)
theorem dX4_readLet_53 : decode cX4_readLet 53 = .ok (.getfield 30, 3) := dk_180 0 30 (dk_at dksX4_readLet_2 5 rfl rfl)
theorem dX4_readLet_56 : decode cX4_readLet 56 = .ok (.aload_n 0, 1) := dk_42 (dk_at dksX4_readLet_2 8 rfl rfl)
theorem dX4_readLet_57 : decode cX4_readLet 57 = .ok (.getfield 257, 3) := dk_180 1 1 (dk_at dksX4_readLet_2 9 rfl rfl)
theorem dX4_readLet_60 : decode cX4_readLet 60 = .ok (.laload, 1) := dk_47 (dk_at dksX4_readLet_2 12 rfl rfl)
theorem dX4_readLet_61 : decode cX4_readLet 61 = .ok (.lstore_n 2, 1) := dk_65 (dk_at dksX4_readLet_2 13 rfl rfl)
theorem dX4_readLet_62 : decode cX4_readLet 62 = .ok (.aload_n 0, 1) := dk_42 (dk_at dksX4_readLet_2 14 rfl rfl)
theorem dX4_readLet_63 : decode cX4_readLet 63 = .ok (.dup, 1) := dk_89 (dk_at dksX4_readLet_2 15 rfl rfl)
theorem dX4_readLet_64 : decode cX4_readLet 64 = .ok (.getfield 257, 3) := dk_180 1 1 (dk_at dksX4_readLet_2 16 rfl rfl)
theorem dX4_readLet_67 : decode cX4_readLet 67 = .ok (.iconst 1, 1) := dk_4 (dk_at dksX4_readLet_2 19 rfl rfl)
theorem dX4_readLet_68 : decode cX4_readLet 68 = .ok (.iadd, 1) := dk_96 (dk_at dksX4_readLet_2 20 rfl rfl)
theorem dX4_readLet_69 : decode cX4_readLet 69 = .ok (.putfield 257, 3) := dk_181 1 1 (dk_at dksX4_readLet_2 21 rfl rfl)
theorem dX4_readLet_72 : decode cX4_readLet 72 = .ok (.aload_n 0, 1) := dk_42 (dk_at dksX4_readLet_3 0 rfl rfl)
theorem dX4_readLet_73 : decode cX4_readLet 73 = .ok (.bipush 61, 2) := dk_16 61 (dk_at dksX4_readLet_3 1 rfl rfl)
theorem dX4_readLet_75 : decode cX4_readLet 75 = .ok (.invokevirtual 311, 3) := dk_182 1 55 (dk_at dksX4_readLet_3 3 rfl rfl)
theorem dX4_readLet_78 : decode cX4_readLet 78 = .ok (.aload_n 0, 1) := dk_42 (dk_at dksX4_readLet_3 6 rfl rfl)
theorem dX4_readLet_79 : decode cX4_readLet 79 = .ok (.getfield 85, 3) := dk_180 0 85 (dk_at dksX4_readLet_3 7 rfl rfl)
theorem dX4_readLet_82 : decode cX4_readLet 82 = .ok (.iload_n 1, 1) := dk_27 (dk_at dksX4_readLet_3 10 rfl rfl)
theorem dX4_readLet_83 : decode cX4_readLet 83 = .ok (.aload_n 0, 1) := dk_42 (dk_at dksX4_readLet_3 11 rfl rfl)
theorem dX4_readLet_84 : decode cX4_readLet 84 = .ok (.invokevirtual 304, 3) := dk_182 1 48 (dk_at dksX4_readLet_3 12 rfl rfl)
theorem dX4_readLet_87 : decode cX4_readLet 87 = .ok (.iastore, 1) := dk_79 (dk_at dksX4_readLet_3 15 rfl rfl)
theorem dX4_readLet_88 : decode cX4_readLet 88 = .ok (.aload_n 0, 1) := dk_42 (dk_at dksX4_readLet_3 16 rfl rfl)
theorem dX4_readLet_89 : decode cX4_readLet 89 = .ok (.getfield 260, 3) := dk_180 1 4 (dk_at dksX4_readLet_3 17 rfl rfl)
theorem dX4_readLet_92 : decode cX4_readLet 92 = .ok (.ifCond .ne 23, 3) := dk_154 0 23 (dk_at dksX4_readLet_3 20 rfl rfl)
theorem dX4_readLet_95 : decode cX4_readLet 95 = .ok (.aload_n 0, 1) := dk_42 (dk_at dksX4_readLet_3 23 rfl rfl)
theorem dX4_readLet_96 : decode cX4_readLet 96 = .ok (.getfield 91, 3) := dk_180 0 91 (dk_at dksX4_readLet_4 0 rfl rfl)
theorem dX4_readLet_99 : decode cX4_readLet 99 = .ok (.aload_n 0, 1) := dk_42 (dk_at dksX4_readLet_4 3 rfl rfl)
theorem dX4_readLet_100 : decode cX4_readLet 100 = .ok (.getfield 285, 3) := dk_180 1 29 (dk_at dksX4_readLet_4 4 rfl rfl)
theorem dX4_readLet_103 : decode cX4_readLet 103 = .ok (.lload_n 2, 1) := dk_32 (dk_at dksX4_readLet_4 7 rfl rfl)
theorem dX4_readLet_104 : decode cX4_readLet 104 = .ok (.lastore, 1) := dk_80 (dk_at dksX4_readLet_4 8 rfl rfl)
theorem dX4_readLet_105 : decode cX4_readLet 105 = .ok (.aload_n 0, 1) := dk_42 (dk_at dksX4_readLet_4 9 rfl rfl)
theorem dX4_readLet_106 : decode cX4_readLet 106 = .ok (.dup, 1) := dk_89 (dk_at dksX4_readLet_4 10 rfl rfl)
theorem dX4_readLet_107 : decode cX4_readLet 107 = .ok (.getfield 285, 3) := dk_180 1 29 (dk_at dksX4_readLet_4 11 rfl rfl)
theorem dX4_readLet_110 : decode cX4_readLet 110 = .ok (.iconst 1, 1) := dk_4 (dk_at dksX4_readLet_4 14 rfl rfl)
theorem dX4_readLet_111 : decode cX4_readLet 111 = .ok (.iadd, 1) := dk_96 (dk_at dksX4_readLet_4 15 rfl rfl)
theorem dX4_readLet_112 : decode cX4_readLet 112 = .ok (.putfield 285, 3) := dk_181 1 29 (dk_at dksX4_readLet_4 16 rfl rfl)
theorem dX4_readLet_115 : decode cX4_readLet 115 = .ok (.return_, 1) := dk_177 (dk_at dksX4_readLet_4 19 rfl rfl)
abbrev cX4_isName : ByteArray := prog_21_method_21_code
def yX4_isName : MethodName := ⟨RX4, "isName", "()Z"⟩
def dkwX4_isName_2 : List UInt8 := [180, 0, 64, 28, 47, 148, 153, 0, 7, 4, 167, 0, 4, 3, 60, 132, 2, 1, 167, 255, 218, 27, 172]
abbrev dktX4_isName_2 : List UInt8 := dkwX4_isName_2 ++ []
def dkwX4_isName_1 : List UInt8 := [3, 60, 3, 61, 28, 16, 15, 162, 0, 38, 27, 153, 0, 26, 42, 180, 0, 30, 42, 180, 1, 1, 47, 42]
abbrev dktX4_isName_1 : List UInt8 := dkwX4_isName_1 ++ dktX4_isName_2
def dkwX4_isName_0 : List UInt8 := [42, 180, 1, 4, 154, 0, 20, 42, 180, 0, 24, 42, 180, 1, 1, 46, 4, 160, 0, 7, 4, 167, 0, 4]
abbrev dktX4_isName_0 : List UInt8 := dkwX4_isName_0 ++ dktX4_isName_1
theorem dksX4_isName_0 : cX4_isName.data.toList.drop 0 = dktX4_isName_0 := by decide +kernel
theorem dksX4_isName_1 : cX4_isName.data.toList.drop 24 = dktX4_isName_1 := dk_seg dksX4_isName_0 24 rfl rfl
theorem dksX4_isName_2 : cX4_isName.data.toList.drop 48 = dktX4_isName_2 := dk_seg dksX4_isName_1 24 rfl rfl
theorem dX4_isName_0 : decode cX4_isName 0 = .ok (.aload_n 0, 1) := dk_42 (dk_at dksX4_isName_0 0 rfl rfl)
theorem dX4_isName_1 : decode cX4_isName 1 = .ok (.getfield 260, 3) := dk_180 1 4 (dk_at dksX4_isName_0 1 rfl rfl)
theorem dX4_isName_4 : decode cX4_isName 4 = .ok (.ifCond .ne 20, 3) := dk_154 0 20 (dk_at dksX4_isName_0 4 rfl rfl)
theorem dX4_isName_7 : decode cX4_isName 7 = .ok (.aload_n 0, 1) := dk_42 (dk_at dksX4_isName_0 7 rfl rfl)
theorem dX4_isName_8 : decode cX4_isName 8 = .ok (.getfield 24, 3) := dk_180 0 24 (dk_at dksX4_isName_0 8 rfl rfl)
theorem dX4_isName_11 : decode cX4_isName 11 = .ok (.aload_n 0, 1) := dk_42 (dk_at dksX4_isName_0 11 rfl rfl)
theorem dX4_isName_12 : decode cX4_isName 12 = .ok (.getfield 257, 3) := dk_180 1 1 (dk_at dksX4_isName_0 12 rfl rfl)
theorem dX4_isName_15 : decode cX4_isName 15 = .ok (.iaload, 1) := dk_46 (dk_at dksX4_isName_0 15 rfl rfl)
theorem dX4_isName_16 : decode cX4_isName 16 = .ok (.iconst 1, 1) := dk_4 (dk_at dksX4_isName_0 16 rfl rfl)
theorem dX4_isName_17 : decode cX4_isName 17 = .ok (.if_icmp .ne 7, 3) := dk_160 0 7 (dk_at dksX4_isName_0 17 rfl rfl)
theorem dX4_isName_20 : decode cX4_isName 20 = .ok (.iconst 1, 1) := dk_4 (dk_at dksX4_isName_0 20 rfl rfl)
theorem dX4_isName_21 : decode cX4_isName 21 = .ok (.goto 4, 3) := dk_167 0 4 (dk_at dksX4_isName_0 21 rfl rfl)
theorem dX4_isName_24 : decode cX4_isName 24 = .ok (.iconst 0, 1) := dk_3 (dk_at dksX4_isName_1 0 rfl rfl)
theorem dX4_isName_25 : decode cX4_isName 25 = .ok (.istore_n 1, 1) := dk_60 (dk_at dksX4_isName_1 1 rfl rfl)
theorem dX4_isName_26 : decode cX4_isName 26 = .ok (.iconst 0, 1) := dk_3 (dk_at dksX4_isName_1 2 rfl rfl)
theorem dX4_isName_27 : decode cX4_isName 27 = .ok (.istore_n 2, 1) := dk_61 (dk_at dksX4_isName_1 3 rfl rfl)
theorem dX4_isName_28 : decode cX4_isName 28 = .ok (.iload_n 2, 1) := dk_28 (dk_at dksX4_isName_1 4 rfl rfl)
theorem dX4_isName_29 : decode cX4_isName 29 = .ok (.bipush 15, 2) := dk_16 15 (dk_at dksX4_isName_1 5 rfl rfl)
theorem dX4_isName_31 : decode cX4_isName 31 = .ok (.if_icmp .ge 38, 3) := dk_162 0 38 (dk_at dksX4_isName_1 7 rfl rfl)
theorem dX4_isName_34 : decode cX4_isName 34 = .ok (.iload_n 1, 1) := dk_27 (dk_at dksX4_isName_1 10 rfl rfl)
theorem dX4_isName_35 : decode cX4_isName 35 = .ok (.ifCond .eq 26, 3) := dk_153 0 26 (dk_at dksX4_isName_1 11 rfl rfl)
theorem dX4_isName_38 : decode cX4_isName 38 = .ok (.aload_n 0, 1) := dk_42 (dk_at dksX4_isName_1 14 rfl rfl)
theorem dX4_isName_39 : decode cX4_isName 39 = .ok (.getfield 30, 3) := dk_180 0 30 (dk_at dksX4_isName_1 15 rfl rfl)
theorem dX4_isName_42 : decode cX4_isName 42 = .ok (.aload_n 0, 1) := dk_42 (dk_at dksX4_isName_1 18 rfl rfl)
theorem dX4_isName_43 : decode cX4_isName 43 = .ok (.getfield 257, 3) := dk_180 1 1 (dk_at dksX4_isName_1 19 rfl rfl)
theorem dX4_isName_46 : decode cX4_isName 46 = .ok (.laload, 1) := dk_47 (dk_at dksX4_isName_1 22 rfl rfl)
theorem dX4_isName_47 : decode cX4_isName 47 = .ok (.aload_n 0, 1) := dk_42 (dk_at dksX4_isName_1 23 rfl rfl)
theorem dX4_isName_48 : decode cX4_isName 48 = .ok (.getfield 64, 3) := dk_180 0 64 (dk_at dksX4_isName_2 0 rfl rfl)
theorem dX4_isName_51 : decode cX4_isName 51 = .ok (.iload_n 2, 1) := dk_28 (dk_at dksX4_isName_2 3 rfl rfl)
theorem dX4_isName_52 : decode cX4_isName 52 = .ok (.laload, 1) := dk_47 (dk_at dksX4_isName_2 4 rfl rfl)
theorem dX4_isName_53 : decode cX4_isName 53 = .ok (.lcmp, 1) := dk_148 (dk_at dksX4_isName_2 5 rfl rfl)
theorem dX4_isName_54 : decode cX4_isName 54 = .ok (.ifCond .eq 7, 3) := dk_153 0 7 (dk_at dksX4_isName_2 6 rfl rfl)
theorem dX4_isName_57 : decode cX4_isName 57 = .ok (.iconst 1, 1) := dk_4 (dk_at dksX4_isName_2 9 rfl rfl)
theorem dX4_isName_58 : decode cX4_isName 58 = .ok (.goto 4, 3) := dk_167 0 4 (dk_at dksX4_isName_2 10 rfl rfl)
theorem dX4_isName_61 : decode cX4_isName 61 = .ok (.iconst 0, 1) := dk_3 (dk_at dksX4_isName_2 13 rfl rfl)
theorem dX4_isName_62 : decode cX4_isName 62 = .ok (.istore_n 1, 1) := dk_60 (dk_at dksX4_isName_2 14 rfl rfl)
theorem dX4_isName_63 : decode cX4_isName 63 = .ok (.iinc 2 1, 3) := dk_132 2 1 (dk_at dksX4_isName_2 15 rfl rfl)
theorem dX4_isName_66 : decode cX4_isName 66 = .ok (.goto (-38), 3) := dk_167 255 218 (dk_at dksX4_isName_2 18 rfl rfl)
theorem dX4_isName_69 : decode cX4_isName 69 = .ok (.iload_n 1, 1) := dk_27 (dk_at dksX4_isName_2 21 rfl rfl)
theorem dX4_isName_70 : decode cX4_isName 70 = .ok (.ireturn, 1) := dk_172 (dk_at dksX4_isName_2 22 rfl rfl)
abbrev cX4_findName : ByteArray := prog_21_method_22_code
def yX4_findName : MethodName := ⟨RX4, "findName", "()I"⟩
def dkwX4_findName_1 : List UInt8 := [180, 1, 1, 47, 148, 154, 0, 7, 28, 167, 0, 4, 27, 60, 132, 2, 1, 167, 255, 220, 27, 172]
abbrev dktX4_findName_1 : List UInt8 := dkwX4_findName_1 ++ []
def dkwX4_findName_0 : List UInt8 := [2, 60, 3, 61, 28, 42, 180, 1, 29, 162, 0, 34, 42, 180, 0, 91, 28, 47, 42, 180, 0, 30, 42]
abbrev dktX4_findName_0 : List UInt8 := dkwX4_findName_0 ++ dktX4_findName_1
theorem dksX4_findName_0 : cX4_findName.data.toList.drop 0 = dktX4_findName_0 := by decide +kernel
theorem dksX4_findName_1 : cX4_findName.data.toList.drop 23 = dktX4_findName_1 := dk_seg dksX4_findName_0 23 rfl rfl
theorem dX4_findName_0 : decode cX4_findName 0 = .ok (.iconst (-1), 1) := dk_2 (dk_at dksX4_findName_0 0 rfl rfl)
theorem dX4_findName_1 : decode cX4_findName 1 = .ok (.istore_n 1, 1) := dk_60 (dk_at dksX4_findName_0 1 rfl rfl)
theorem dX4_findName_2 : decode cX4_findName 2 = .ok (.iconst 0, 1) := dk_3 (dk_at dksX4_findName_0 2 rfl rfl)
theorem dX4_findName_3 : decode cX4_findName 3 = .ok (.istore_n 2, 1) := dk_61 (dk_at dksX4_findName_0 3 rfl rfl)
theorem dX4_findName_4 : decode cX4_findName 4 = .ok (.iload_n 2, 1) := dk_28 (dk_at dksX4_findName_0 4 rfl rfl)
theorem dX4_findName_5 : decode cX4_findName 5 = .ok (.aload_n 0, 1) := dk_42 (dk_at dksX4_findName_0 5 rfl rfl)
theorem dX4_findName_6 : decode cX4_findName 6 = .ok (.getfield 285, 3) := dk_180 1 29 (dk_at dksX4_findName_0 6 rfl rfl)
theorem dX4_findName_9 : decode cX4_findName 9 = .ok (.if_icmp .ge 34, 3) := dk_162 0 34 (dk_at dksX4_findName_0 9 rfl rfl)
theorem dX4_findName_12 : decode cX4_findName 12 = .ok (.aload_n 0, 1) := dk_42 (dk_at dksX4_findName_0 12 rfl rfl)
theorem dX4_findName_13 : decode cX4_findName 13 = .ok (.getfield 91, 3) := dk_180 0 91 (dk_at dksX4_findName_0 13 rfl rfl)
theorem dX4_findName_16 : decode cX4_findName 16 = .ok (.iload_n 2, 1) := dk_28 (dk_at dksX4_findName_0 16 rfl rfl)
theorem dX4_findName_17 : decode cX4_findName 17 = .ok (.laload, 1) := dk_47 (dk_at dksX4_findName_0 17 rfl rfl)
theorem dX4_findName_18 : decode cX4_findName 18 = .ok (.aload_n 0, 1) := dk_42 (dk_at dksX4_findName_0 18 rfl rfl)
theorem dX4_findName_19 : decode cX4_findName 19 = .ok (.getfield 30, 3) := dk_180 0 30 (dk_at dksX4_findName_0 19 rfl rfl)
theorem dX4_findName_22 : decode cX4_findName 22 = .ok (.aload_n 0, 1) := dk_42 (dk_at dksX4_findName_0 22 rfl rfl)
theorem dX4_findName_23 : decode cX4_findName 23 = .ok (.getfield 257, 3) := dk_180 1 1 (dk_at dksX4_findName_1 0 rfl rfl)
theorem dX4_findName_26 : decode cX4_findName 26 = .ok (.laload, 1) := dk_47 (dk_at dksX4_findName_1 3 rfl rfl)
theorem dX4_findName_27 : decode cX4_findName 27 = .ok (.lcmp, 1) := dk_148 (dk_at dksX4_findName_1 4 rfl rfl)
theorem dX4_findName_28 : decode cX4_findName 28 = .ok (.ifCond .ne 7, 3) := dk_154 0 7 (dk_at dksX4_findName_1 5 rfl rfl)
theorem dX4_findName_31 : decode cX4_findName 31 = .ok (.iload_n 2, 1) := dk_28 (dk_at dksX4_findName_1 8 rfl rfl)
theorem dX4_findName_32 : decode cX4_findName 32 = .ok (.goto 4, 3) := dk_167 0 4 (dk_at dksX4_findName_1 9 rfl rfl)
theorem dX4_findName_35 : decode cX4_findName 35 = .ok (.iload_n 1, 1) := dk_27 (dk_at dksX4_findName_1 12 rfl rfl)
theorem dX4_findName_36 : decode cX4_findName 36 = .ok (.istore_n 1, 1) := dk_60 (dk_at dksX4_findName_1 13 rfl rfl)
theorem dX4_findName_37 : decode cX4_findName 37 = .ok (.iinc 2 1, 3) := dk_132 2 1 (dk_at dksX4_findName_1 14 rfl rfl)
theorem dX4_findName_40 : decode cX4_findName 40 = .ok (.goto (-36), 3) := dk_167 255 220 (dk_at dksX4_findName_1 17 rfl rfl)
theorem dX4_findName_43 : decode cX4_findName 43 = .ok (.iload_n 1, 1) := dk_27 (dk_at dksX4_findName_1 20 rfl rfl)
theorem dX4_findName_44 : decode cX4_findName 44 = .ok (.ireturn, 1) := dk_172 (dk_at dksX4_findName_1 21 rfl rfl)
abbrev cX4_takeSign : ByteArray := prog_21_method_13_code
def yX4_takeSign : MethodName := ⟨RX4, "takeSign", "(I)V"⟩
def dkwX4_takeSign_1 : List UInt8 := [182, 1, 10, 177]
abbrev dktX4_takeSign_1 : List UInt8 := dkwX4_takeSign_1 ++ []
def dkwX4_takeSign_0 : List UInt8 := [42, 27, 182, 1, 7, 153, 0, 16, 42, 89, 180, 1, 1, 4, 96, 181, 1, 1, 167, 0, 8, 42, 4]
abbrev dktX4_takeSign_0 : List UInt8 := dkwX4_takeSign_0 ++ dktX4_takeSign_1
theorem dksX4_takeSign_0 : cX4_takeSign.data.toList.drop 0 = dktX4_takeSign_0 := by decide +kernel
theorem dksX4_takeSign_1 : cX4_takeSign.data.toList.drop 23 = dktX4_takeSign_1 := dk_seg dksX4_takeSign_0 23 rfl rfl
theorem dX4_takeSign_0 : decode cX4_takeSign 0 = .ok (.aload_n 0, 1) := dk_42 (dk_at dksX4_takeSign_0 0 rfl rfl)
theorem dX4_takeSign_1 : decode cX4_takeSign 1 = .ok (.iload_n 1, 1) := dk_27 (dk_at dksX4_takeSign_0 1 rfl rfl)
theorem dX4_takeSign_2 : decode cX4_takeSign 2 = .ok (.invokevirtual 263, 3) := dk_182 1 7 (dk_at dksX4_takeSign_0 2 rfl rfl)
theorem dX4_takeSign_5 : decode cX4_takeSign 5 = .ok (.ifCond .eq 16, 3) := dk_153 0 16 (dk_at dksX4_takeSign_0 5 rfl rfl)
theorem dX4_takeSign_8 : decode cX4_takeSign 8 = .ok (.aload_n 0, 1) := dk_42 (dk_at dksX4_takeSign_0 8 rfl rfl)
theorem dX4_takeSign_9 : decode cX4_takeSign 9 = .ok (.dup, 1) := dk_89 (dk_at dksX4_takeSign_0 9 rfl rfl)
theorem dX4_takeSign_10 : decode cX4_takeSign 10 = .ok (.getfield 257, 3) := dk_180 1 1 (dk_at dksX4_takeSign_0 10 rfl rfl)
theorem dX4_takeSign_13 : decode cX4_takeSign 13 = .ok (.iconst 1, 1) := dk_4 (dk_at dksX4_takeSign_0 13 rfl rfl)
theorem dX4_takeSign_14 : decode cX4_takeSign 14 = .ok (.iadd, 1) := dk_96 (dk_at dksX4_takeSign_0 14 rfl rfl)
theorem dX4_takeSign_15 : decode cX4_takeSign 15 = .ok (.putfield 257, 3) := dk_181 1 1 (dk_at dksX4_takeSign_0 15 rfl rfl)
theorem dX4_takeSign_18 : decode cX4_takeSign 18 = .ok (.goto 8, 3) := dk_167 0 8 (dk_at dksX4_takeSign_0 18 rfl rfl)
theorem dX4_takeSign_21 : decode cX4_takeSign 21 = .ok (.aload_n 0, 1) := dk_42 (dk_at dksX4_takeSign_0 21 rfl rfl)
theorem dX4_takeSign_22 : decode cX4_takeSign 22 = .ok (.iconst 1, 1) := dk_4 (dk_at dksX4_takeSign_0 22 rfl rfl)
theorem dX4_takeSign_23 : decode cX4_takeSign 23 = .ok (.invokevirtual 266, 3) := dk_182 1 10 (dk_at dksX4_takeSign_1 0 rfl rfl)
theorem dX4_takeSign_26 : decode cX4_takeSign 26 = .ok (.return_, 1) := dk_177 (dk_at dksX4_takeSign_1 3 rfl rfl)
abbrev cX4_isSign : ByteArray := prog_21_method_11_code
def yX4_isSign : MethodName := ⟨RX4, "isSign", "(I)Z"⟩
def dkwX4_isSign_1 : List UInt8 := [42, 180, 1, 1, 47, 27, 133, 148, 154, 0, 7, 4, 167, 0, 4, 3, 172]
abbrev dktX4_isSign_1 : List UInt8 := dkwX4_isSign_1 ++ []
def dkwX4_isSign_0 : List UInt8 := [42, 180, 1, 4, 154, 0, 35, 42, 180, 0, 24, 42, 180, 1, 1, 46, 6, 160, 0, 22, 42, 180, 0, 30]
abbrev dktX4_isSign_0 : List UInt8 := dkwX4_isSign_0 ++ dktX4_isSign_1
theorem dksX4_isSign_0 : cX4_isSign.data.toList.drop 0 = dktX4_isSign_0 := by decide +kernel
theorem dksX4_isSign_1 : cX4_isSign.data.toList.drop 24 = dktX4_isSign_1 := dk_seg dksX4_isSign_0 24 rfl rfl
theorem dX4_isSign_0 : decode cX4_isSign 0 = .ok (.aload_n 0, 1) := dk_42 (dk_at dksX4_isSign_0 0 rfl rfl)
theorem dX4_isSign_1 : decode cX4_isSign 1 = .ok (.getfield 260, 3) := dk_180 1 4 (dk_at dksX4_isSign_0 1 rfl rfl)
theorem dX4_isSign_4 : decode cX4_isSign 4 = .ok (.ifCond .ne 35, 3) := dk_154 0 35 (dk_at dksX4_isSign_0 4 rfl rfl)
theorem dX4_isSign_7 : decode cX4_isSign 7 = .ok (.aload_n 0, 1) := dk_42 (dk_at dksX4_isSign_0 7 rfl rfl)
theorem dX4_isSign_8 : decode cX4_isSign 8 = .ok (.getfield 24, 3) := dk_180 0 24 (dk_at dksX4_isSign_0 8 rfl rfl)
theorem dX4_isSign_11 : decode cX4_isSign 11 = .ok (.aload_n 0, 1) := dk_42 (dk_at dksX4_isSign_0 11 rfl rfl)
theorem dX4_isSign_12 : decode cX4_isSign 12 = .ok (.getfield 257, 3) := dk_180 1 1 (dk_at dksX4_isSign_0 12 rfl rfl)
theorem dX4_isSign_15 : decode cX4_isSign 15 = .ok (.iaload, 1) := dk_46 (dk_at dksX4_isSign_0 15 rfl rfl)
theorem dX4_isSign_16 : decode cX4_isSign 16 = .ok (.iconst 3, 1) := dk_6 (dk_at dksX4_isSign_0 16 rfl rfl)
theorem dX4_isSign_17 : decode cX4_isSign 17 = .ok (.if_icmp .ne 22, 3) := dk_160 0 22 (dk_at dksX4_isSign_0 17 rfl rfl)
theorem dX4_isSign_20 : decode cX4_isSign 20 = .ok (.aload_n 0, 1) := dk_42 (dk_at dksX4_isSign_0 20 rfl rfl)
theorem dX4_isSign_21 : decode cX4_isSign 21 = .ok (.getfield 30, 3) := dk_180 0 30 (dk_at dksX4_isSign_0 21 rfl rfl)
theorem dX4_isSign_24 : decode cX4_isSign 24 = .ok (.aload_n 0, 1) := dk_42 (dk_at dksX4_isSign_1 0 rfl rfl)
theorem dX4_isSign_25 : decode cX4_isSign 25 = .ok (.getfield 257, 3) := dk_180 1 1 (dk_at dksX4_isSign_1 1 rfl rfl)
theorem dX4_isSign_28 : decode cX4_isSign 28 = .ok (.laload, 1) := dk_47 (dk_at dksX4_isSign_1 4 rfl rfl)
theorem dX4_isSign_29 : decode cX4_isSign 29 = .ok (.iload_n 1, 1) := dk_27 (dk_at dksX4_isSign_1 5 rfl rfl)
theorem dX4_isSign_30 : decode cX4_isSign 30 = .ok (.i2l, 1) := dk_133 (dk_at dksX4_isSign_1 6 rfl rfl)
theorem dX4_isSign_31 : decode cX4_isSign 31 = .ok (.lcmp, 1) := dk_148 (dk_at dksX4_isSign_1 7 rfl rfl)
theorem dX4_isSign_32 : decode cX4_isSign 32 = .ok (.ifCond .ne 7, 3) := dk_154 0 7 (dk_at dksX4_isSign_1 8 rfl rfl)
theorem dX4_isSign_35 : decode cX4_isSign 35 = .ok (.iconst 1, 1) := dk_4 (dk_at dksX4_isSign_1 11 rfl rfl)
theorem dX4_isSign_36 : decode cX4_isSign 36 = .ok (.goto 4, 3) := dk_167 0 4 (dk_at dksX4_isSign_1 12 rfl rfl)
theorem dX4_isSign_39 : decode cX4_isSign 39 = .ok (.iconst 0, 1) := dk_3 (dk_at dksX4_isSign_1 15 rfl rfl)
theorem dX4_isSign_40 : decode cX4_isSign 40 = .ok (.ireturn, 1) := dk_172 (dk_at dksX4_isSign_1 16 rfl rfl)
abbrev cX4_readTests : ByteArray := prog_21_method_25_code
def yX4_readTests : MethodName := ⟨RX4, "readTests", "()I"⟩
def dkwX4_readTests_0 : List UInt8 := [17, 75, 0, 42, 180, 1, 20, 96, 60, 42, 3, 182, 1, 65, 42, 3, 3, 182, 1, 68, 27, 172]
abbrev dktX4_readTests_0 : List UInt8 := dkwX4_readTests_0 ++ []
theorem dksX4_readTests_0 : cX4_readTests.data.toList.drop 0 = dktX4_readTests_0 := by decide +kernel
theorem dX4_readTests_0 : decode cX4_readTests 0 = .ok (.sipush 19200, 3) := dk_17 75 0 (dk_at dksX4_readTests_0 0 rfl rfl)
theorem dX4_readTests_3 : decode cX4_readTests 3 = .ok (.aload_n 0, 1) := dk_42 (dk_at dksX4_readTests_0 3 rfl rfl)
theorem dX4_readTests_4 : decode cX4_readTests 4 = .ok (.getfield 276, 3) := dk_180 1 20 (dk_at dksX4_readTests_0 4 rfl rfl)
theorem dX4_readTests_7 : decode cX4_readTests 7 = .ok (.iadd, 1) := dk_96 (dk_at dksX4_readTests_0 7 rfl rfl)
theorem dX4_readTests_8 : decode cX4_readTests 8 = .ok (.istore_n 1, 1) := dk_60 (dk_at dksX4_readTests_0 8 rfl rfl)
theorem dX4_readTests_9 : decode cX4_readTests 9 = .ok (.aload_n 0, 1) := dk_42 (dk_at dksX4_readTests_0 9 rfl rfl)
theorem dX4_readTests_10 : decode cX4_readTests 10 = .ok (.iconst 0, 1) := dk_3 (dk_at dksX4_readTests_0 10 rfl rfl)
theorem dX4_readTests_11 : decode cX4_readTests 11 = .ok (.invokevirtual 321, 3) := dk_182 1 65 (dk_at dksX4_readTests_0 11 rfl rfl)
theorem dX4_readTests_14 : decode cX4_readTests 14 = .ok (.aload_n 0, 1) := dk_42 (dk_at dksX4_readTests_0 14 rfl rfl)
theorem dX4_readTests_15 : decode cX4_readTests 15 = .ok (.iconst 0, 1) := dk_3 (dk_at dksX4_readTests_0 15 rfl rfl)
theorem dX4_readTests_16 : decode cX4_readTests 16 = .ok (.iconst 0, 1) := dk_3 (dk_at dksX4_readTests_0 16 rfl rfl)
theorem dX4_readTests_17 : decode cX4_readTests 17 = .ok (.invokevirtual 324, 3) := dk_182 1 68 (dk_at dksX4_readTests_0 17 rfl rfl)
theorem dX4_readTests_20 : decode cX4_readTests 20 = .ok (.iload_n 1, 1) := dk_27 (dk_at dksX4_readTests_0 20 rfl rfl)
theorem dX4_readTests_21 : decode cX4_readTests 21 = .ok (.ireturn, 1) := dk_172 (dk_at dksX4_readTests_0 21 rfl rfl)
abbrev cX4_all : ByteArray := prog_21_method_26_code
def yX4_all : MethodName := ⟨RX4, "all", "(I)V"⟩
def dkwX4_all_2 : List UInt8 := [16, 11, 167, 0, 5, 16, 12, 3, 182, 1, 68, 167, 255, 202, 177]
abbrev dktX4_all_2 : List UInt8 := dkwX4_all_2 ++ []
def dkwX4_all_1 : List UInt8 := [182, 1, 14, 61, 42, 89, 180, 1, 1, 4, 96, 181, 1, 1, 42, 27, 182, 1, 71, 42, 28, 153, 0, 8]
abbrev dktX4_all_1 : List UInt8 := dkwX4_all_1 ++ dktX4_all_2
def dkwX4_all_0 : List UInt8 := [42, 27, 182, 1, 71, 42, 8, 182, 1, 14, 154, 0, 12, 42, 16, 6, 182, 1, 14, 153, 0, 43, 42, 8]
abbrev dktX4_all_0 : List UInt8 := dkwX4_all_0 ++ dktX4_all_1
theorem dksX4_all_0 : cX4_all.data.toList.drop 0 = dktX4_all_0 := by decide +kernel
theorem dksX4_all_1 : cX4_all.data.toList.drop 24 = dktX4_all_1 := dk_seg dksX4_all_0 24 rfl rfl
theorem dksX4_all_2 : cX4_all.data.toList.drop 48 = dktX4_all_2 := dk_seg dksX4_all_1 24 rfl rfl
theorem dX4_all_0 : decode cX4_all 0 = .ok (.aload_n 0, 1) := dk_42 (dk_at dksX4_all_0 0 rfl rfl)
theorem dX4_all_1 : decode cX4_all 1 = .ok (.iload_n 1, 1) := dk_27 (dk_at dksX4_all_0 1 rfl rfl)
theorem dX4_all_2 : decode cX4_all 2 = .ok (.invokevirtual 327, 3) := dk_182 1 71 (dk_at dksX4_all_0 2 rfl rfl)
theorem dX4_all_5 : decode cX4_all 5 = .ok (.aload_n 0, 1) := dk_42 (dk_at dksX4_all_0 5 rfl rfl)
theorem dX4_all_6 : decode cX4_all 6 = .ok (.iconst 5, 1) := dk_8 (dk_at dksX4_all_0 6 rfl rfl)
theorem dX4_all_7 : decode cX4_all 7 = .ok (.invokevirtual 270, 3) := dk_182 1 14 (dk_at dksX4_all_0 7 rfl rfl)
theorem dX4_all_10 : decode cX4_all 10 = .ok (.ifCond .ne 12, 3) := dk_154 0 12 (dk_at dksX4_all_0 10 rfl rfl)
theorem dX4_all_13 : decode cX4_all 13 = .ok (.aload_n 0, 1) := dk_42 (dk_at dksX4_all_0 13 rfl rfl)
theorem dX4_all_14 : decode cX4_all 14 = .ok (.bipush 6, 2) := dk_16 6 (dk_at dksX4_all_0 14 rfl rfl)
theorem dX4_all_16 : decode cX4_all 16 = .ok (.invokevirtual 270, 3) := dk_182 1 14 (dk_at dksX4_all_0 16 rfl rfl)
theorem dX4_all_19 : decode cX4_all 19 = .ok (.ifCond .eq 43, 3) := dk_153 0 43 (dk_at dksX4_all_0 19 rfl rfl)
theorem dX4_all_22 : decode cX4_all 22 = .ok (.aload_n 0, 1) := dk_42 (dk_at dksX4_all_0 22 rfl rfl)
theorem dX4_all_23 : decode cX4_all 23 = .ok (.iconst 5, 1) := dk_8 (dk_at dksX4_all_0 23 rfl rfl)
theorem dX4_all_24 : decode cX4_all 24 = .ok (.invokevirtual 270, 3) := dk_182 1 14 (dk_at dksX4_all_1 0 rfl rfl)
theorem dX4_all_27 : decode cX4_all 27 = .ok (.istore_n 2, 1) := dk_61 (dk_at dksX4_all_1 3 rfl rfl)
theorem dX4_all_28 : decode cX4_all 28 = .ok (.aload_n 0, 1) := dk_42 (dk_at dksX4_all_1 4 rfl rfl)
theorem dX4_all_29 : decode cX4_all 29 = .ok (.dup, 1) := dk_89 (dk_at dksX4_all_1 5 rfl rfl)
theorem dX4_all_30 : decode cX4_all 30 = .ok (.getfield 257, 3) := dk_180 1 1 (dk_at dksX4_all_1 6 rfl rfl)
theorem dX4_all_33 : decode cX4_all 33 = .ok (.iconst 1, 1) := dk_4 (dk_at dksX4_all_1 9 rfl rfl)
theorem dX4_all_34 : decode cX4_all 34 = .ok (.iadd, 1) := dk_96 (dk_at dksX4_all_1 10 rfl rfl)
theorem dX4_all_35 : decode cX4_all 35 = .ok (.putfield 257, 3) := dk_181 1 1 (dk_at dksX4_all_1 11 rfl rfl)
theorem dX4_all_38 : decode cX4_all 38 = .ok (.aload_n 0, 1) := dk_42 (dk_at dksX4_all_1 14 rfl rfl)
theorem dX4_all_39 : decode cX4_all 39 = .ok (.iload_n 1, 1) := dk_27 (dk_at dksX4_all_1 15 rfl rfl)
theorem dX4_all_40 : decode cX4_all 40 = .ok (.invokevirtual 327, 3) := dk_182 1 71 (dk_at dksX4_all_1 16 rfl rfl)
theorem dX4_all_43 : decode cX4_all 43 = .ok (.aload_n 0, 1) := dk_42 (dk_at dksX4_all_1 19 rfl rfl)
theorem dX4_all_44 : decode cX4_all 44 = .ok (.iload_n 2, 1) := dk_28 (dk_at dksX4_all_1 20 rfl rfl)
theorem dX4_all_45 : decode cX4_all 45 = .ok (.ifCond .eq 8, 3) := dk_153 0 8 (dk_at dksX4_all_1 21 rfl rfl)
theorem dX4_all_48 : decode cX4_all 48 = .ok (.bipush 11, 2) := dk_16 11 (dk_at dksX4_all_2 0 rfl rfl)
theorem dX4_all_50 : decode cX4_all 50 = .ok (.goto 5, 3) := dk_167 0 5 (dk_at dksX4_all_2 2 rfl rfl)
theorem dX4_all_53 : decode cX4_all 53 = .ok (.bipush 12, 2) := dk_16 12 (dk_at dksX4_all_2 5 rfl rfl)
theorem dX4_all_55 : decode cX4_all 55 = .ok (.iconst 0, 1) := dk_3 (dk_at dksX4_all_2 7 rfl rfl)
theorem dX4_all_56 : decode cX4_all 56 = .ok (.invokevirtual 324, 3) := dk_182 1 68 (dk_at dksX4_all_2 8 rfl rfl)
theorem dX4_all_59 : decode cX4_all 59 = .ok (.goto (-54), 3) := dk_167 255 202 (dk_at dksX4_all_2 11 rfl rfl)
theorem dX4_all_62 : decode cX4_all 62 = .ok (.return_, 1) := dk_177 (dk_at dksX4_all_2 14 rfl rfl)
abbrev cX4_test : ByteArray := prog_21_method_27_code
def yX4_test : MethodName := ⟨RX4, "test", "(I)V"⟩
def dkwX4_test_2 : List UInt8 := [182, 1, 68, 177]
abbrev dktX4_test_2 : List UInt8 := dkwX4_test_2 ++ []
def dkwX4_test_1 : List UInt8 := [182, 1, 77, 153, 0, 24, 42, 27, 182, 1, 74, 42, 28, 153, 0, 8, 16, 9, 167, 0, 5, 16, 10, 3]
abbrev dktX4_test_1 : List UInt8 := dkwX4_test_1 ++ dktX4_test_2
def dkwX4_test_0 : List UInt8 := [42, 27, 182, 1, 74, 42, 16, 60, 182, 1, 7, 61, 42, 16, 60, 182, 1, 77, 154, 0, 12, 42, 16, 61]
abbrev dktX4_test_0 : List UInt8 := dkwX4_test_0 ++ dktX4_test_1
theorem dksX4_test_0 : cX4_test.data.toList.drop 0 = dktX4_test_0 := by decide +kernel
theorem dksX4_test_1 : cX4_test.data.toList.drop 24 = dktX4_test_1 := dk_seg dksX4_test_0 24 rfl rfl
theorem dksX4_test_2 : cX4_test.data.toList.drop 48 = dktX4_test_2 := dk_seg dksX4_test_1 24 rfl rfl
theorem dX4_test_0 : decode cX4_test 0 = .ok (.aload_n 0, 1) := dk_42 (dk_at dksX4_test_0 0 rfl rfl)
theorem dX4_test_1 : decode cX4_test 1 = .ok (.iload_n 1, 1) := dk_27 (dk_at dksX4_test_0 1 rfl rfl)
theorem dX4_test_2 : decode cX4_test 2 = .ok (.invokevirtual 330, 3) := dk_182 1 74 (dk_at dksX4_test_0 2 rfl rfl)
theorem dX4_test_5 : decode cX4_test 5 = .ok (.aload_n 0, 1) := dk_42 (dk_at dksX4_test_0 5 rfl rfl)
theorem dX4_test_6 : decode cX4_test 6 = .ok (.bipush 60, 2) := dk_16 60 (dk_at dksX4_test_0 6 rfl rfl)
theorem dX4_test_8 : decode cX4_test 8 = .ok (.invokevirtual 263, 3) := dk_182 1 7 (dk_at dksX4_test_0 8 rfl rfl)
theorem dX4_test_11 : decode cX4_test 11 = .ok (.istore_n 2, 1) := dk_61 (dk_at dksX4_test_0 11 rfl rfl)
theorem dX4_test_12 : decode cX4_test 12 = .ok (.aload_n 0, 1) := dk_42 (dk_at dksX4_test_0 12 rfl rfl)
theorem dX4_test_13 : decode cX4_test 13 = .ok (.bipush 60, 2) := dk_16 60 (dk_at dksX4_test_0 13 rfl rfl)
theorem dX4_test_15 : decode cX4_test 15 = .ok (.invokevirtual 333, 3) := dk_182 1 77 (dk_at dksX4_test_0 15 rfl rfl)
theorem dX4_test_18 : decode cX4_test 18 = .ok (.ifCond .ne 12, 3) := dk_154 0 12 (dk_at dksX4_test_0 18 rfl rfl)
theorem dX4_test_21 : decode cX4_test 21 = .ok (.aload_n 0, 1) := dk_42 (dk_at dksX4_test_0 21 rfl rfl)
theorem dX4_test_22 : decode cX4_test 22 = .ok (.bipush 61, 2) := dk_16 61 (dk_at dksX4_test_0 22 rfl rfl)
theorem dX4_test_24 : decode cX4_test 24 = .ok (.invokevirtual 333, 3) := dk_182 1 77 (dk_at dksX4_test_1 0 rfl rfl)
theorem dX4_test_27 : decode cX4_test 27 = .ok (.ifCond .eq 24, 3) := dk_153 0 24 (dk_at dksX4_test_1 3 rfl rfl)
theorem dX4_test_30 : decode cX4_test 30 = .ok (.aload_n 0, 1) := dk_42 (dk_at dksX4_test_1 6 rfl rfl)
theorem dX4_test_31 : decode cX4_test 31 = .ok (.iload_n 1, 1) := dk_27 (dk_at dksX4_test_1 7 rfl rfl)
theorem dX4_test_32 : decode cX4_test 32 = .ok (.invokevirtual 330, 3) := dk_182 1 74 (dk_at dksX4_test_1 8 rfl rfl)
theorem dX4_test_35 : decode cX4_test 35 = .ok (.aload_n 0, 1) := dk_42 (dk_at dksX4_test_1 11 rfl rfl)
theorem dX4_test_36 : decode cX4_test 36 = .ok (.iload_n 2, 1) := dk_28 (dk_at dksX4_test_1 12 rfl rfl)
theorem dX4_test_37 : decode cX4_test 37 = .ok (.ifCond .eq 8, 3) := dk_153 0 8 (dk_at dksX4_test_1 13 rfl rfl)
theorem dX4_test_40 : decode cX4_test 40 = .ok (.bipush 9, 2) := dk_16 9 (dk_at dksX4_test_1 16 rfl rfl)
theorem dX4_test_42 : decode cX4_test 42 = .ok (.goto 5, 3) := dk_167 0 5 (dk_at dksX4_test_1 18 rfl rfl)
theorem dX4_test_45 : decode cX4_test 45 = .ok (.bipush 10, 2) := dk_16 10 (dk_at dksX4_test_1 21 rfl rfl)
theorem dX4_test_47 : decode cX4_test 47 = .ok (.iconst 0, 1) := dk_3 (dk_at dksX4_test_1 23 rfl rfl)
theorem dX4_test_48 : decode cX4_test 48 = .ok (.invokevirtual 324, 3) := dk_182 1 68 (dk_at dksX4_test_2 0 rfl rfl)
theorem dX4_test_51 : decode cX4_test 51 = .ok (.return_, 1) := dk_177 (dk_at dksX4_test_2 3 rfl rfl)
abbrev cX4_sums : ByteArray := prog_21_method_28_code
def yX4_sums : MethodName := ⟨RX4, "sums", "(I)V"⟩
def dkwX4_sums_2 : List UInt8 := [153, 0, 8, 16, 6, 167, 0, 5, 16, 7, 3, 182, 1, 68, 167, 255, 200, 177]
abbrev dktX4_sums_2 : List UInt8 := dkwX4_sums_2 ++ []
def dkwX4_sums_1 : List UInt8 := [16, 43, 182, 1, 7, 61, 42, 89, 180, 1, 1, 4, 96, 181, 1, 1, 42, 27, 182, 1, 80, 42, 28]
abbrev dktX4_sums_1 : List UInt8 := dkwX4_sums_1 ++ dktX4_sums_2
def dkwX4_sums_0 : List UInt8 := [42, 27, 182, 1, 80, 42, 16, 43, 182, 1, 7, 154, 0, 12, 42, 16, 45, 182, 1, 7, 153, 0, 44, 42]
abbrev dktX4_sums_0 : List UInt8 := dkwX4_sums_0 ++ dktX4_sums_1
theorem dksX4_sums_0 : cX4_sums.data.toList.drop 0 = dktX4_sums_0 := by decide +kernel
theorem dksX4_sums_1 : cX4_sums.data.toList.drop 24 = dktX4_sums_1 := dk_seg dksX4_sums_0 24 rfl rfl
theorem dksX4_sums_2 : cX4_sums.data.toList.drop 47 = dktX4_sums_2 := dk_seg dksX4_sums_1 23 rfl rfl
theorem dX4_sums_0 : decode cX4_sums 0 = .ok (.aload_n 0, 1) := dk_42 (dk_at dksX4_sums_0 0 rfl rfl)
theorem dX4_sums_1 : decode cX4_sums 1 = .ok (.iload_n 1, 1) := dk_27 (dk_at dksX4_sums_0 1 rfl rfl)
theorem dX4_sums_2 : decode cX4_sums 2 = .ok (.invokevirtual 336, 3) := dk_182 1 80 (dk_at dksX4_sums_0 2 rfl rfl)
theorem dX4_sums_5 : decode cX4_sums 5 = .ok (.aload_n 0, 1) := dk_42 (dk_at dksX4_sums_0 5 rfl rfl)
theorem dX4_sums_6 : decode cX4_sums 6 = .ok (.bipush 43, 2) := dk_16 43 (dk_at dksX4_sums_0 6 rfl rfl)
theorem dX4_sums_8 : decode cX4_sums 8 = .ok (.invokevirtual 263, 3) := dk_182 1 7 (dk_at dksX4_sums_0 8 rfl rfl)
theorem dX4_sums_11 : decode cX4_sums 11 = .ok (.ifCond .ne 12, 3) := dk_154 0 12 (dk_at dksX4_sums_0 11 rfl rfl)
theorem dX4_sums_14 : decode cX4_sums 14 = .ok (.aload_n 0, 1) := dk_42 (dk_at dksX4_sums_0 14 rfl rfl)
theorem dX4_sums_15 : decode cX4_sums 15 = .ok (.bipush 45, 2) := dk_16 45 (dk_at dksX4_sums_0 15 rfl rfl)
theorem dX4_sums_17 : decode cX4_sums 17 = .ok (.invokevirtual 263, 3) := dk_182 1 7 (dk_at dksX4_sums_0 17 rfl rfl)
theorem dX4_sums_20 : decode cX4_sums 20 = .ok (.ifCond .eq 44, 3) := dk_153 0 44 (dk_at dksX4_sums_0 20 rfl rfl)
theorem dX4_sums_23 : decode cX4_sums 23 = .ok (.aload_n 0, 1) := dk_42 (dk_at dksX4_sums_0 23 rfl rfl)
theorem dX4_sums_24 : decode cX4_sums 24 = .ok (.bipush 43, 2) := dk_16 43 (dk_at dksX4_sums_1 0 rfl rfl)
theorem dX4_sums_26 : decode cX4_sums 26 = .ok (.invokevirtual 263, 3) := dk_182 1 7 (dk_at dksX4_sums_1 2 rfl rfl)
theorem dX4_sums_29 : decode cX4_sums 29 = .ok (.istore_n 2, 1) := dk_61 (dk_at dksX4_sums_1 5 rfl rfl)
theorem dX4_sums_30 : decode cX4_sums 30 = .ok (.aload_n 0, 1) := dk_42 (dk_at dksX4_sums_1 6 rfl rfl)
theorem dX4_sums_31 : decode cX4_sums 31 = .ok (.dup, 1) := dk_89 (dk_at dksX4_sums_1 7 rfl rfl)
theorem dX4_sums_32 : decode cX4_sums 32 = .ok (.getfield 257, 3) := dk_180 1 1 (dk_at dksX4_sums_1 8 rfl rfl)
theorem dX4_sums_35 : decode cX4_sums 35 = .ok (.iconst 1, 1) := dk_4 (dk_at dksX4_sums_1 11 rfl rfl)
theorem dX4_sums_36 : decode cX4_sums 36 = .ok (.iadd, 1) := dk_96 (dk_at dksX4_sums_1 12 rfl rfl)
theorem dX4_sums_37 : decode cX4_sums 37 = .ok (.putfield 257, 3) := dk_181 1 1 (dk_at dksX4_sums_1 13 rfl rfl)
theorem dX4_sums_40 : decode cX4_sums 40 = .ok (.aload_n 0, 1) := dk_42 (dk_at dksX4_sums_1 16 rfl rfl)
theorem dX4_sums_41 : decode cX4_sums 41 = .ok (.iload_n 1, 1) := dk_27 (dk_at dksX4_sums_1 17 rfl rfl)
theorem dX4_sums_42 : decode cX4_sums 42 = .ok (.invokevirtual 336, 3) := dk_182 1 80 (dk_at dksX4_sums_1 18 rfl rfl)
theorem dX4_sums_45 : decode cX4_sums 45 = .ok (.aload_n 0, 1) := dk_42 (dk_at dksX4_sums_1 21 rfl rfl)
theorem dX4_sums_46 : decode cX4_sums 46 = .ok (.iload_n 2, 1) := dk_28 (dk_at dksX4_sums_1 22 rfl rfl)
theorem dX4_sums_47 : decode cX4_sums 47 = .ok (.ifCond .eq 8, 3) := dk_153 0 8 (dk_at dksX4_sums_2 0 rfl rfl)
theorem dX4_sums_50 : decode cX4_sums 50 = .ok (.bipush 6, 2) := dk_16 6 (dk_at dksX4_sums_2 3 rfl rfl)
theorem dX4_sums_52 : decode cX4_sums 52 = .ok (.goto 5, 3) := dk_167 0 5 (dk_at dksX4_sums_2 5 rfl rfl)
theorem dX4_sums_55 : decode cX4_sums 55 = .ok (.bipush 7, 2) := dk_16 7 (dk_at dksX4_sums_2 8 rfl rfl)
theorem dX4_sums_57 : decode cX4_sums 57 = .ok (.iconst 0, 1) := dk_3 (dk_at dksX4_sums_2 10 rfl rfl)
theorem dX4_sums_58 : decode cX4_sums 58 = .ok (.invokevirtual 324, 3) := dk_182 1 68 (dk_at dksX4_sums_2 11 rfl rfl)
theorem dX4_sums_61 : decode cX4_sums 61 = .ok (.goto (-56), 3) := dk_167 255 200 (dk_at dksX4_sums_2 14 rfl rfl)
theorem dX4_sums_64 : decode cX4_sums 64 = .ok (.return_, 1) := dk_177 (dk_at dksX4_sums_2 17 rfl rfl)
abbrev cX4_products : ByteArray := prog_21_method_29_code
def yX4_products : MethodName := ⟨RX4, "products", "(I)V"⟩
def dkwX4_products_1 : List UInt8 := [182, 1, 68, 167, 255, 235, 177]
abbrev dktX4_products_1 : List UInt8 := dkwX4_products_1 ++ []
def dkwX4_products_0 : List UInt8 := [42, 27, 182, 1, 83, 42, 16, 42, 182, 1, 77, 153, 0, 18, 42, 27, 182, 1, 83, 42, 16, 8, 3]
abbrev dktX4_products_0 : List UInt8 := dkwX4_products_0 ++ dktX4_products_1
theorem dksX4_products_0 : cX4_products.data.toList.drop 0 = dktX4_products_0 := by decide +kernel
theorem dksX4_products_1 : cX4_products.data.toList.drop 23 = dktX4_products_1 := dk_seg dksX4_products_0 23 rfl rfl
theorem dX4_products_0 : decode cX4_products 0 = .ok (.aload_n 0, 1) := dk_42 (dk_at dksX4_products_0 0 rfl rfl)
theorem dX4_products_1 : decode cX4_products 1 = .ok (.iload_n 1, 1) := dk_27 (dk_at dksX4_products_0 1 rfl rfl)
theorem dX4_products_2 : decode cX4_products 2 = .ok (.invokevirtual 339, 3) := dk_182 1 83 (dk_at dksX4_products_0 2 rfl rfl)
theorem dX4_products_5 : decode cX4_products 5 = .ok (.aload_n 0, 1) := dk_42 (dk_at dksX4_products_0 5 rfl rfl)
theorem dX4_products_6 : decode cX4_products 6 = .ok (.bipush 42, 2) := dk_16 42 (dk_at dksX4_products_0 6 rfl rfl)
theorem dX4_products_8 : decode cX4_products 8 = .ok (.invokevirtual 333, 3) := dk_182 1 77 (dk_at dksX4_products_0 8 rfl rfl)
theorem dX4_products_11 : decode cX4_products 11 = .ok (.ifCond .eq 18, 3) := dk_153 0 18 (dk_at dksX4_products_0 11 rfl rfl)
theorem dX4_products_14 : decode cX4_products 14 = .ok (.aload_n 0, 1) := dk_42 (dk_at dksX4_products_0 14 rfl rfl)
theorem dX4_products_15 : decode cX4_products 15 = .ok (.iload_n 1, 1) := dk_27 (dk_at dksX4_products_0 15 rfl rfl)
theorem dX4_products_16 : decode cX4_products 16 = .ok (.invokevirtual 339, 3) := dk_182 1 83 (dk_at dksX4_products_0 16 rfl rfl)
theorem dX4_products_19 : decode cX4_products 19 = .ok (.aload_n 0, 1) := dk_42 (dk_at dksX4_products_0 19 rfl rfl)
theorem dX4_products_20 : decode cX4_products 20 = .ok (.bipush 8, 2) := dk_16 8 (dk_at dksX4_products_0 20 rfl rfl)
theorem dX4_products_22 : decode cX4_products 22 = .ok (.iconst 0, 1) := dk_3 (dk_at dksX4_products_0 22 rfl rfl)
theorem dX4_products_23 : decode cX4_products 23 = .ok (.invokevirtual 324, 3) := dk_182 1 68 (dk_at dksX4_products_1 0 rfl rfl)
theorem dX4_products_26 : decode cX4_products 26 = .ok (.goto (-21), 3) := dk_167 255 235 (dk_at dksX4_products_1 3 rfl rfl)
theorem dX4_products_29 : decode cX4_products 29 = .ok (.return_, 1) := dk_177 (dk_at dksX4_products_1 6 rfl rfl)
abbrev cX4_takePart : ByteArray := prog_21_method_30_code
def yX4_takePart : MethodName := ⟨RX4, "takePart", "(I)V"⟩
def dkwX4_takePart_12 : List UInt8 := [155, 0, 8, 21, 4, 167, 0, 4, 28, 182, 1, 68, 42, 89, 180, 1, 1, 4, 96, 181, 1, 1, 177]
abbrev dktX4_takePart_12 : List UInt8 := dkwX4_takePart_12 ++ []
def dkwX4_takePart_11 : List UInt8 := [167, 0, 4, 5, 29, 153, 0, 16, 42, 180, 0, 30, 42, 180, 1, 1, 47, 136, 167, 0, 14, 21, 4]
abbrev dktX4_takePart_11 : List UInt8 := dkwX4_takePart_11 ++ dktX4_takePart_12
def dkwX4_takePart_10 : List UInt8 := [16, 41, 182, 1, 55, 167, 0, 63, 42, 29, 153, 0, 7, 4, 167, 0, 13, 21, 4, 155, 0, 7, 6]
abbrev dktX4_takePart_10 : List UInt8 := dkwX4_takePart_10 ++ dktX4_takePart_11
def dkwX4_takePart_9 : List UInt8 := [182, 1, 68, 167, 0, 88, 42, 16, 40, 182, 1, 77, 153, 0, 19, 42, 27, 4, 96, 182, 1, 65, 42]
abbrev dktX4_takePart_9 : List UInt8 := dkwX4_takePart_9 ++ dktX4_takePart_10
def dkwX4_takePart_8 : List UInt8 := [167, 0, 115, 42, 16, 8, 182, 1, 17, 153, 0, 21, 42, 16, 11, 182, 1, 45, 54, 5, 42, 7, 21, 5]
abbrev dktX4_takePart_8 : List UInt8 := dkwX4_takePart_8 ++ dktX4_takePart_9
def dkwX4_takePart_7 : List UInt8 := [177, 42, 16, 7, 182, 1, 17, 153, 0, 19, 42, 27, 4, 96, 182, 1, 83, 42, 8, 3, 182, 1, 68]
abbrev dktX4_takePart_7 : List UInt8 := dkwX4_takePart_7 ++ dktX4_takePart_8
def dkwX4_takePart_6 : List UInt8 := [5, 182, 1, 10, 167, 0, 13, 27, 7, 160, 0, 8, 42, 8, 182, 1, 10, 42, 180, 1, 4, 158, 0, 4]
abbrev dktX4_takePart_6 : List UInt8 := dkwX4_takePart_6 ++ dktX4_takePart_7
def dkwX4_takePart_5 : List UInt8 := [154, 0, 11, 42, 4, 182, 1, 10, 167, 0, 33, 42, 182, 1, 58, 153, 0, 16, 21, 4, 156, 0, 11, 42]
abbrev dktX4_takePart_5 : List UInt8 := dkwX4_takePart_5 ++ dktX4_takePart_6
def dkwX4_takePart_4 : List UInt8 := [42, 16, 40, 182, 1, 7, 154, 0, 29, 42, 16, 7, 182, 1, 14, 154, 0, 20, 42, 16, 8, 182, 1, 14]
abbrev dktX4_takePart_4 : List UInt8 := dkwX4_takePart_4 ++ dktX4_takePart_5
def dkwX4_takePart_3 : List UInt8 := [182, 1, 62, 167, 0, 4, 2, 54, 4, 28, 156, 0, 49, 29, 154, 0, 45, 42, 182, 1, 58, 154, 0, 38]
abbrev dktX4_takePart_3 : List UInt8 := dkwX4_takePart_3 ++ dktX4_takePart_4
def dkwX4_takePart_2 : List UInt8 := [180, 1, 1, 46, 5, 160, 0, 7, 4, 167, 0, 4, 3, 62, 42, 182, 1, 58, 153, 0, 10, 42]
abbrev dktX4_takePart_2 : List UInt8 := dkwX4_takePart_2 ++ dktX4_takePart_3
def dkwX4_takePart_1 : List UInt8 := [153, 0, 10, 29, 16, 9, 100, 167, 0, 4, 28, 61, 132, 3, 1, 167, 255, 230, 42, 180, 0, 24, 42]
abbrev dktX4_takePart_1 : List UInt8 := dkwX4_takePart_1 ++ dktX4_takePart_2
def dkwX4_takePart_0 : List UInt8 := [42, 180, 1, 4, 158, 0, 4, 177, 2, 61, 16, 9, 62, 29, 16, 15, 162, 0, 26, 42, 29, 182, 1, 14]
abbrev dktX4_takePart_0 : List UInt8 := dkwX4_takePart_0 ++ dktX4_takePart_1
theorem dksX4_takePart_0 : cX4_takePart.data.toList.drop 0 = dktX4_takePart_0 := by decide +kernel
theorem dksX4_takePart_1 : cX4_takePart.data.toList.drop 24 = dktX4_takePart_1 := dk_seg dksX4_takePart_0 24 rfl rfl
theorem dksX4_takePart_2 : cX4_takePart.data.toList.drop 47 = dktX4_takePart_2 := dk_seg dksX4_takePart_1 23 rfl rfl
theorem dksX4_takePart_3 : cX4_takePart.data.toList.drop 69 = dktX4_takePart_3 := dk_seg dksX4_takePart_2 22 rfl rfl
theorem dksX4_takePart_4 : cX4_takePart.data.toList.drop 93 = dktX4_takePart_4 := dk_seg dksX4_takePart_3 24 rfl rfl
theorem dksX4_takePart_5 : cX4_takePart.data.toList.drop 117 = dktX4_takePart_5 := dk_seg dksX4_takePart_4 24 rfl rfl
theorem dksX4_takePart_6 : cX4_takePart.data.toList.drop 141 = dktX4_takePart_6 := dk_seg dksX4_takePart_5 24 rfl rfl
theorem dksX4_takePart_7 : cX4_takePart.data.toList.drop 165 = dktX4_takePart_7 := dk_seg dksX4_takePart_6 24 rfl rfl
theorem dksX4_takePart_8 : cX4_takePart.data.toList.drop 188 = dktX4_takePart_8 := dk_seg dksX4_takePart_7 23 rfl rfl
theorem dksX4_takePart_9 : cX4_takePart.data.toList.drop 212 = dktX4_takePart_9 := dk_seg dksX4_takePart_8 24 rfl rfl
theorem dksX4_takePart_10 : cX4_takePart.data.toList.drop 235 = dktX4_takePart_10 := dk_seg dksX4_takePart_9 23 rfl rfl
theorem dksX4_takePart_11 : cX4_takePart.data.toList.drop 258 = dktX4_takePart_11 := dk_seg dksX4_takePart_10 23 rfl rfl
theorem dksX4_takePart_12 : cX4_takePart.data.toList.drop 281 = dktX4_takePart_12 := dk_seg dksX4_takePart_11 23 rfl rfl
theorem dX4_takePart_0 : decode cX4_takePart 0 = .ok (.aload_n 0, 1) := dk_42 (dk_at dksX4_takePart_0 0 rfl rfl)
theorem dX4_takePart_1 : decode cX4_takePart 1 = .ok (.getfield 260, 3) := dk_180 1 4 (dk_at dksX4_takePart_0 1 rfl rfl)
theorem dX4_takePart_4 : decode cX4_takePart 4 = .ok (.ifCond .le 4, 3) := dk_158 0 4 (dk_at dksX4_takePart_0 4 rfl rfl)
theorem dX4_takePart_7 : decode cX4_takePart 7 = .ok (.return_, 1) := dk_177 (dk_at dksX4_takePart_0 7 rfl rfl)
theorem dX4_takePart_8 : decode cX4_takePart 8 = .ok (.iconst (-1), 1) := dk_2 (dk_at dksX4_takePart_0 8 rfl rfl)
theorem dX4_takePart_9 : decode cX4_takePart 9 = .ok (.istore_n 2, 1) := dk_61 (dk_at dksX4_takePart_0 9 rfl rfl)
theorem dX4_takePart_10 : decode cX4_takePart 10 = .ok (.bipush 9, 2) := dk_16 9 (dk_at dksX4_takePart_0 10 rfl rfl)
theorem dX4_takePart_12 : decode cX4_takePart 12 = .ok (.istore_n 3, 1) := dk_62 (dk_at dksX4_takePart_0 12 rfl rfl)
theorem dX4_takePart_13 : decode cX4_takePart 13 = .ok (.iload_n 3, 1) := dk_29 (dk_at dksX4_takePart_0 13 rfl rfl)
theorem dX4_takePart_14 : decode cX4_takePart 14 = .ok (.bipush 15, 2) := dk_16 15 (dk_at dksX4_takePart_0 14 rfl rfl)
theorem dX4_takePart_16 : decode cX4_takePart 16 = .ok (.if_icmp .ge 26, 3) := dk_162 0 26 (dk_at dksX4_takePart_0 16 rfl rfl)
theorem dX4_takePart_19 : decode cX4_takePart 19 = .ok (.aload_n 0, 1) := dk_42 (dk_at dksX4_takePart_0 19 rfl rfl)
theorem dX4_takePart_20 : decode cX4_takePart 20 = .ok (.iload_n 3, 1) := dk_29 (dk_at dksX4_takePart_0 20 rfl rfl)
theorem dX4_takePart_21 : decode cX4_takePart 21 = .ok (.invokevirtual 270, 3) := dk_182 1 14 (dk_at dksX4_takePart_0 21 rfl rfl)
theorem dX4_takePart_24 : decode cX4_takePart 24 = .ok (.ifCond .eq 10, 3) := dk_153 0 10 (dk_at dksX4_takePart_1 0 rfl rfl)
theorem dX4_takePart_27 : decode cX4_takePart 27 = .ok (.iload_n 3, 1) := dk_29 (dk_at dksX4_takePart_1 3 rfl rfl)
theorem dX4_takePart_28 : decode cX4_takePart 28 = .ok (.bipush 9, 2) := dk_16 9 (dk_at dksX4_takePart_1 4 rfl rfl)
theorem dX4_takePart_30 : decode cX4_takePart 30 = .ok (.isub, 1) := dk_100 (dk_at dksX4_takePart_1 6 rfl rfl)
theorem dX4_takePart_31 : decode cX4_takePart 31 = .ok (.goto 4, 3) := dk_167 0 4 (dk_at dksX4_takePart_1 7 rfl rfl)
theorem dX4_takePart_34 : decode cX4_takePart 34 = .ok (.iload_n 2, 1) := dk_28 (dk_at dksX4_takePart_1 10 rfl rfl)
theorem dX4_takePart_35 : decode cX4_takePart 35 = .ok (.istore_n 2, 1) := dk_61 (dk_at dksX4_takePart_1 11 rfl rfl)
theorem dX4_takePart_36 : decode cX4_takePart 36 = .ok (.iinc 3 1, 3) := dk_132 3 1 (dk_at dksX4_takePart_1 12 rfl rfl)
theorem dX4_takePart_39 : decode cX4_takePart 39 = .ok (.goto (-26), 3) := dk_167 255 230 (dk_at dksX4_takePart_1 15 rfl rfl)
theorem dX4_takePart_42 : decode cX4_takePart 42 = .ok (.aload_n 0, 1) := dk_42 (dk_at dksX4_takePart_1 18 rfl rfl)
theorem dX4_takePart_43 : decode cX4_takePart 43 = .ok (.getfield 24, 3) := dk_180 0 24 (dk_at dksX4_takePart_1 19 rfl rfl)
theorem dX4_takePart_46 : decode cX4_takePart 46 = .ok (.aload_n 0, 1) := dk_42 (dk_at dksX4_takePart_1 22 rfl rfl)
theorem dX4_takePart_47 : decode cX4_takePart 47 = .ok (.getfield 257, 3) := dk_180 1 1 (dk_at dksX4_takePart_2 0 rfl rfl)
theorem dX4_takePart_50 : decode cX4_takePart 50 = .ok (.iaload, 1) := dk_46 (dk_at dksX4_takePart_2 3 rfl rfl)
theorem dX4_takePart_51 : decode cX4_takePart 51 = .ok (.iconst 2, 1) := dk_5 (dk_at dksX4_takePart_2 4 rfl rfl)
theorem dX4_takePart_52 : decode cX4_takePart 52 = .ok (.if_icmp .ne 7, 3) := dk_160 0 7 (dk_at dksX4_takePart_2 5 rfl rfl)
theorem dX4_takePart_55 : decode cX4_takePart 55 = .ok (.iconst 1, 1) := dk_4 (dk_at dksX4_takePart_2 8 rfl rfl)
theorem dX4_takePart_56 : decode cX4_takePart 56 = .ok (.goto 4, 3) := dk_167 0 4 (dk_at dksX4_takePart_2 9 rfl rfl)
theorem dX4_takePart_59 : decode cX4_takePart 59 = .ok (.iconst 0, 1) := dk_3 (dk_at dksX4_takePart_2 12 rfl rfl)
theorem dX4_takePart_60 : decode cX4_takePart 60 = .ok (.istore_n 3, 1) := dk_62 (dk_at dksX4_takePart_2 13 rfl rfl)
theorem dX4_takePart_61 : decode cX4_takePart 61 = .ok (.aload_n 0, 1) := dk_42 (dk_at dksX4_takePart_2 14 rfl rfl)
theorem dX4_takePart_62 : decode cX4_takePart 62 = .ok (.invokevirtual 314, 3) := dk_182 1 58 (dk_at dksX4_takePart_2 15 rfl rfl)
theorem dX4_takePart_65 : decode cX4_takePart 65 = .ok (.ifCond .eq 10, 3) := dk_153 0 10 (dk_at dksX4_takePart_2 18 rfl rfl)
theorem dX4_takePart_68 : decode cX4_takePart 68 = .ok (.aload_n 0, 1) := dk_42 (dk_at dksX4_takePart_2 21 rfl rfl)
theorem dX4_takePart_69 : decode cX4_takePart 69 = .ok (.invokevirtual 318, 3) := dk_182 1 62 (dk_at dksX4_takePart_3 0 rfl rfl)
theorem dX4_takePart_72 : decode cX4_takePart 72 = .ok (.goto 4, 3) := dk_167 0 4 (dk_at dksX4_takePart_3 3 rfl rfl)
theorem dX4_takePart_75 : decode cX4_takePart 75 = .ok (.iconst (-1), 1) := dk_2 (dk_at dksX4_takePart_3 6 rfl rfl)
theorem dX4_takePart_76 : decode cX4_takePart 76 = .ok (.istore 4, 2) := dk_54 4 (dk_at dksX4_takePart_3 7 rfl rfl)
theorem dX4_takePart_78 : decode cX4_takePart 78 = .ok (.iload_n 2, 1) := dk_28 (dk_at dksX4_takePart_3 9 rfl rfl)
theorem dX4_takePart_79 : decode cX4_takePart 79 = .ok (.ifCond .ge 49, 3) := dk_156 0 49 (dk_at dksX4_takePart_3 10 rfl rfl)
theorem dX4_takePart_82 : decode cX4_takePart 82 = .ok (.iload_n 3, 1) := dk_29 (dk_at dksX4_takePart_3 13 rfl rfl)
theorem dX4_takePart_83 : decode cX4_takePart 83 = .ok (.ifCond .ne 45, 3) := dk_154 0 45 (dk_at dksX4_takePart_3 14 rfl rfl)
theorem dX4_takePart_86 : decode cX4_takePart 86 = .ok (.aload_n 0, 1) := dk_42 (dk_at dksX4_takePart_3 17 rfl rfl)
theorem dX4_takePart_87 : decode cX4_takePart 87 = .ok (.invokevirtual 314, 3) := dk_182 1 58 (dk_at dksX4_takePart_3 18 rfl rfl)
theorem dX4_takePart_90 : decode cX4_takePart 90 = .ok (.ifCond .ne 38, 3) := dk_154 0 38 (dk_at dksX4_takePart_3 21 rfl rfl)
theorem dX4_takePart_93 : decode cX4_takePart 93 = .ok (.aload_n 0, 1) := dk_42 (dk_at dksX4_takePart_4 0 rfl rfl)
theorem dX4_takePart_94 : decode cX4_takePart 94 = .ok (.bipush 40, 2) := dk_16 40 (dk_at dksX4_takePart_4 1 rfl rfl)
theorem dX4_takePart_96 : decode cX4_takePart 96 = .ok (.invokevirtual 263, 3) := dk_182 1 7 (dk_at dksX4_takePart_4 3 rfl rfl)
theorem dX4_takePart_99 : decode cX4_takePart 99 = .ok (.ifCond .ne 29, 3) := dk_154 0 29 (dk_at dksX4_takePart_4 6 rfl rfl)
theorem dX4_takePart_102 : decode cX4_takePart 102 = .ok (.aload_n 0, 1) := dk_42 (dk_at dksX4_takePart_4 9 rfl rfl)
theorem dX4_takePart_103 : decode cX4_takePart 103 = .ok (.bipush 7, 2) := dk_16 7 (dk_at dksX4_takePart_4 10 rfl rfl)
theorem dX4_takePart_105 : decode cX4_takePart 105 = .ok (.invokevirtual 270, 3) := dk_182 1 14 (dk_at dksX4_takePart_4 12 rfl rfl)
theorem dX4_takePart_108 : decode cX4_takePart 108 = .ok (.ifCond .ne 20, 3) := dk_154 0 20 (dk_at dksX4_takePart_4 15 rfl rfl)
theorem dX4_takePart_111 : decode cX4_takePart 111 = .ok (.aload_n 0, 1) := dk_42 (dk_at dksX4_takePart_4 18 rfl rfl)
theorem dX4_takePart_112 : decode cX4_takePart 112 = .ok (.bipush 8, 2) := dk_16 8 (dk_at dksX4_takePart_4 19 rfl rfl)
theorem dX4_takePart_114 : decode cX4_takePart 114 = .ok (.invokevirtual 270, 3) := dk_182 1 14 (dk_at dksX4_takePart_4 21 rfl rfl)
theorem dX4_takePart_117 : decode cX4_takePart 117 = .ok (.ifCond .ne 11, 3) := dk_154 0 11 (dk_at dksX4_takePart_5 0 rfl rfl)
theorem dX4_takePart_120 : decode cX4_takePart 120 = .ok (.aload_n 0, 1) := dk_42 (dk_at dksX4_takePart_5 3 rfl rfl)
theorem dX4_takePart_121 : decode cX4_takePart 121 = .ok (.iconst 1, 1) := dk_4 (dk_at dksX4_takePart_5 4 rfl rfl)
theorem dX4_takePart_122 : decode cX4_takePart 122 = .ok (.invokevirtual 266, 3) := dk_182 1 10 (dk_at dksX4_takePart_5 5 rfl rfl)
theorem dX4_takePart_125 : decode cX4_takePart 125 = .ok (.goto 33, 3) := dk_167 0 33 (dk_at dksX4_takePart_5 8 rfl rfl)
theorem dX4_takePart_128 : decode cX4_takePart 128 = .ok (.aload_n 0, 1) := dk_42 (dk_at dksX4_takePart_5 11 rfl rfl)
theorem dX4_takePart_129 : decode cX4_takePart 129 = .ok (.invokevirtual 314, 3) := dk_182 1 58 (dk_at dksX4_takePart_5 12 rfl rfl)
theorem dX4_takePart_132 : decode cX4_takePart 132 = .ok (.ifCond .eq 16, 3) := dk_153 0 16 (dk_at dksX4_takePart_5 15 rfl rfl)
theorem dX4_takePart_135 : decode cX4_takePart 135 = .ok (.iload 4, 2) := dk_21 4 (dk_at dksX4_takePart_5 18 rfl rfl)
theorem dX4_takePart_137 : decode cX4_takePart 137 = .ok (.ifCond .ge 11, 3) := dk_156 0 11 (dk_at dksX4_takePart_5 20 rfl rfl)
theorem dX4_takePart_140 : decode cX4_takePart 140 = .ok (.aload_n 0, 1) := dk_42 (dk_at dksX4_takePart_5 23 rfl rfl)
theorem dX4_takePart_141 : decode cX4_takePart 141 = .ok (.iconst 2, 1) := dk_5 (dk_at dksX4_takePart_6 0 rfl rfl)
theorem dX4_takePart_142 : decode cX4_takePart 142 = .ok (.invokevirtual 266, 3) := dk_182 1 10 (dk_at dksX4_takePart_6 1 rfl rfl)
theorem dX4_takePart_145 : decode cX4_takePart 145 = .ok (.goto 13, 3) := dk_167 0 13 (dk_at dksX4_takePart_6 4 rfl rfl)
theorem dX4_takePart_148 : decode cX4_takePart 148 = .ok (.iload_n 1, 1) := dk_27 (dk_at dksX4_takePart_6 7 rfl rfl)
theorem dX4_takePart_149 : decode cX4_takePart 149 = .ok (.iconst 4, 1) := dk_7 (dk_at dksX4_takePart_6 8 rfl rfl)
theorem dX4_takePart_150 : decode cX4_takePart 150 = .ok (.if_icmp .ne 8, 3) := dk_160 0 8 (dk_at dksX4_takePart_6 9 rfl rfl)
theorem dX4_takePart_153 : decode cX4_takePart 153 = .ok (.aload_n 0, 1) := dk_42 (dk_at dksX4_takePart_6 12 rfl rfl)
theorem dX4_takePart_154 : decode cX4_takePart 154 = .ok (.iconst 5, 1) := dk_8 (dk_at dksX4_takePart_6 13 rfl rfl)
theorem dX4_takePart_155 : decode cX4_takePart 155 = .ok (.invokevirtual 266, 3) := dk_182 1 10 (dk_at dksX4_takePart_6 14 rfl rfl)
theorem dX4_takePart_158 : decode cX4_takePart 158 = .ok (.aload_n 0, 1) := dk_42 (dk_at dksX4_takePart_6 17 rfl rfl)
theorem dX4_takePart_159 : decode cX4_takePart 159 = .ok (.getfield 260, 3) := dk_180 1 4 (dk_at dksX4_takePart_6 18 rfl rfl)
theorem dX4_takePart_162 : decode cX4_takePart 162 = .ok (.ifCond .le 4, 3) := dk_158 0 4 (dk_at dksX4_takePart_6 21 rfl rfl)
theorem dX4_takePart_165 : decode cX4_takePart 165 = .ok (.return_, 1) := dk_177 (dk_at dksX4_takePart_7 0 rfl rfl)
theorem dX4_takePart_166 : decode cX4_takePart 166 = .ok (.aload_n 0, 1) := dk_42 (dk_at dksX4_takePart_7 1 rfl rfl)
theorem dX4_takePart_167 : decode cX4_takePart 167 = .ok (.bipush 7, 2) := dk_16 7 (dk_at dksX4_takePart_7 2 rfl rfl)
theorem dX4_takePart_169 : decode cX4_takePart 169 = .ok (.invokevirtual 273, 3) := dk_182 1 17 (dk_at dksX4_takePart_7 4 rfl rfl)
theorem dX4_takePart_172 : decode cX4_takePart 172 = .ok (.ifCond .eq 19, 3) := dk_153 0 19 (dk_at dksX4_takePart_7 7 rfl rfl)
theorem dX4_takePart_175 : decode cX4_takePart 175 = .ok (.aload_n 0, 1) := dk_42 (dk_at dksX4_takePart_7 10 rfl rfl)
theorem dX4_takePart_176 : decode cX4_takePart 176 = .ok (.iload_n 1, 1) := dk_27 (dk_at dksX4_takePart_7 11 rfl rfl)
theorem dX4_takePart_177 : decode cX4_takePart 177 = .ok (.iconst 1, 1) := dk_4 (dk_at dksX4_takePart_7 12 rfl rfl)
theorem dX4_takePart_178 : decode cX4_takePart 178 = .ok (.iadd, 1) := dk_96 (dk_at dksX4_takePart_7 13 rfl rfl)
theorem dX4_takePart_179 : decode cX4_takePart 179 = .ok (.invokevirtual 339, 3) := dk_182 1 83 (dk_at dksX4_takePart_7 14 rfl rfl)
theorem dX4_takePart_182 : decode cX4_takePart 182 = .ok (.aload_n 0, 1) := dk_42 (dk_at dksX4_takePart_7 17 rfl rfl)
theorem dX4_takePart_183 : decode cX4_takePart 183 = .ok (.iconst 5, 1) := dk_8 (dk_at dksX4_takePart_7 18 rfl rfl)
theorem dX4_takePart_184 : decode cX4_takePart 184 = .ok (.iconst 0, 1) := dk_3 (dk_at dksX4_takePart_7 19 rfl rfl)
theorem dX4_takePart_185 : decode cX4_takePart 185 = .ok (.invokevirtual 324, 3) := dk_182 1 68 (dk_at dksX4_takePart_7 20 rfl rfl)
theorem dX4_takePart_188 : decode cX4_takePart 188 = .ok (.goto 115, 3) := dk_167 0 115 (dk_at dksX4_takePart_8 0 rfl rfl)
theorem dX4_takePart_191 : decode cX4_takePart 191 = .ok (.aload_n 0, 1) := dk_42 (dk_at dksX4_takePart_8 3 rfl rfl)
theorem dX4_takePart_192 : decode cX4_takePart 192 = .ok (.bipush 8, 2) := dk_16 8 (dk_at dksX4_takePart_8 4 rfl rfl)
theorem dX4_takePart_194 : decode cX4_takePart 194 = .ok (.invokevirtual 273, 3) := dk_182 1 17 (dk_at dksX4_takePart_8 6 rfl rfl)
theorem dX4_takePart_197 : decode cX4_takePart 197 = .ok (.ifCond .eq 21, 3) := dk_153 0 21 (dk_at dksX4_takePart_8 9 rfl rfl)
theorem dX4_takePart_200 : decode cX4_takePart 200 = .ok (.aload_n 0, 1) := dk_42 (dk_at dksX4_takePart_8 12 rfl rfl)
theorem dX4_takePart_201 : decode cX4_takePart 201 = .ok (.bipush 11, 2) := dk_16 11 (dk_at dksX4_takePart_8 13 rfl rfl)
theorem dX4_takePart_203 : decode cX4_takePart 203 = .ok (.invokevirtual 301, 3) := dk_182 1 45 (dk_at dksX4_takePart_8 15 rfl rfl)
theorem dX4_takePart_206 : decode cX4_takePart 206 = .ok (.istore 5, 2) := dk_54 5 (dk_at dksX4_takePart_8 18 rfl rfl)
theorem dX4_takePart_208 : decode cX4_takePart 208 = .ok (.aload_n 0, 1) := dk_42 (dk_at dksX4_takePart_8 20 rfl rfl)
theorem dX4_takePart_209 : decode cX4_takePart 209 = .ok (.iconst 4, 1) := dk_7 (dk_at dksX4_takePart_8 21 rfl rfl)
theorem dX4_takePart_210 : decode cX4_takePart 210 = .ok (.iload 5, 2) := dk_21 5 (dk_at dksX4_takePart_8 22 rfl rfl)
theorem dX4_takePart_212 : decode cX4_takePart 212 = .ok (.invokevirtual 324, 3) := dk_182 1 68 (dk_at dksX4_takePart_9 0 rfl rfl)
theorem dX4_takePart_215 : decode cX4_takePart 215 = .ok (.goto 88, 3) := dk_167 0 88 (dk_at dksX4_takePart_9 3 rfl rfl)
theorem dX4_takePart_218 : decode cX4_takePart 218 = .ok (.aload_n 0, 1) := dk_42 (dk_at dksX4_takePart_9 6 rfl rfl)
theorem dX4_takePart_219 : decode cX4_takePart 219 = .ok (.bipush 40, 2) := dk_16 40 (dk_at dksX4_takePart_9 7 rfl rfl)
theorem dX4_takePart_221 : decode cX4_takePart 221 = .ok (.invokevirtual 333, 3) := dk_182 1 77 (dk_at dksX4_takePart_9 9 rfl rfl)
theorem dX4_takePart_224 : decode cX4_takePart 224 = .ok (.ifCond .eq 19, 3) := dk_153 0 19 (dk_at dksX4_takePart_9 12 rfl rfl)
theorem dX4_takePart_227 : decode cX4_takePart 227 = .ok (.aload_n 0, 1) := dk_42 (dk_at dksX4_takePart_9 15 rfl rfl)
theorem dX4_takePart_228 : decode cX4_takePart 228 = .ok (.iload_n 1, 1) := dk_27 (dk_at dksX4_takePart_9 16 rfl rfl)
theorem dX4_takePart_229 : decode cX4_takePart 229 = .ok (.iconst 1, 1) := dk_4 (dk_at dksX4_takePart_9 17 rfl rfl)
theorem dX4_takePart_230 : decode cX4_takePart 230 = .ok (.iadd, 1) := dk_96 (dk_at dksX4_takePart_9 18 rfl rfl)
theorem dX4_takePart_231 : decode cX4_takePart 231 = .ok (.invokevirtual 321, 3) := dk_182 1 65 (dk_at dksX4_takePart_9 19 rfl rfl)
theorem dX4_takePart_234 : decode cX4_takePart 234 = .ok (.aload_n 0, 1) := dk_42 (dk_at dksX4_takePart_9 22 rfl rfl)
theorem dX4_takePart_235 : decode cX4_takePart 235 = .ok (.bipush 41, 2) := dk_16 41 (dk_at dksX4_takePart_10 0 rfl rfl)
theorem dX4_takePart_237 : decode cX4_takePart 237 = .ok (.invokevirtual 311, 3) := dk_182 1 55 (dk_at dksX4_takePart_10 2 rfl rfl)
theorem dX4_takePart_240 : decode cX4_takePart 240 = .ok (.goto 63, 3) := dk_167 0 63 (dk_at dksX4_takePart_10 5 rfl rfl)
theorem dX4_takePart_243 : decode cX4_takePart 243 = .ok (.aload_n 0, 1) := dk_42 (dk_at dksX4_takePart_10 8 rfl rfl)
theorem dX4_takePart_244 : decode cX4_takePart 244 = .ok (.iload_n 3, 1) := dk_29 (dk_at dksX4_takePart_10 9 rfl rfl)
theorem dX4_takePart_245 : decode cX4_takePart 245 = .ok (.ifCond .eq 7, 3) := dk_153 0 7 (dk_at dksX4_takePart_10 10 rfl rfl)
theorem dX4_takePart_248 : decode cX4_takePart 248 = .ok (.iconst 1, 1) := dk_4 (dk_at dksX4_takePart_10 13 rfl rfl)
theorem dX4_takePart_249 : decode cX4_takePart 249 = .ok (.goto 13, 3) := dk_167 0 13 (dk_at dksX4_takePart_10 14 rfl rfl)
theorem dX4_takePart_252 : decode cX4_takePart 252 = .ok (.iload 4, 2) := dk_21 4 (dk_at dksX4_takePart_10 17 rfl rfl)
theorem dX4_takePart_254 : decode cX4_takePart 254 = .ok (.ifCond .lt 7, 3) := dk_155 0 7 (dk_at dksX4_takePart_10 19 rfl rfl)
theorem dX4_takePart_257 : decode cX4_takePart 257 = .ok (.iconst 3, 1) := dk_6 (dk_at dksX4_takePart_10 22 rfl rfl)
theorem dX4_takePart_258 : decode cX4_takePart 258 = .ok (.goto 4, 3) := dk_167 0 4 (dk_at dksX4_takePart_11 0 rfl rfl)
theorem dX4_takePart_261 : decode cX4_takePart 261 = .ok (.iconst 2, 1) := dk_5 (dk_at dksX4_takePart_11 3 rfl rfl)
theorem dX4_takePart_262 : decode cX4_takePart 262 = .ok (.iload_n 3, 1) := dk_29 (dk_at dksX4_takePart_11 4 rfl rfl)
theorem dX4_takePart_263 : decode cX4_takePart 263 = .ok (.ifCond .eq 16, 3) := dk_153 0 16 (dk_at dksX4_takePart_11 5 rfl rfl)
theorem dX4_takePart_266 : decode cX4_takePart 266 = .ok (.aload_n 0, 1) := dk_42 (dk_at dksX4_takePart_11 8 rfl rfl)
theorem dX4_takePart_267 : decode cX4_takePart 267 = .ok (.getfield 30, 3) := dk_180 0 30 (dk_at dksX4_takePart_11 9 rfl rfl)
theorem dX4_takePart_270 : decode cX4_takePart 270 = .ok (.aload_n 0, 1) := dk_42 (dk_at dksX4_takePart_11 12 rfl rfl)
theorem dX4_takePart_271 : decode cX4_takePart 271 = .ok (.getfield 257, 3) := dk_180 1 1 (dk_at dksX4_takePart_11 13 rfl rfl)
theorem dX4_takePart_274 : decode cX4_takePart 274 = .ok (.laload, 1) := dk_47 (dk_at dksX4_takePart_11 16 rfl rfl)
theorem dX4_takePart_275 : decode cX4_takePart 275 = .ok (.l2i, 1) := dk_136 (dk_at dksX4_takePart_11 17 rfl rfl)
theorem dX4_takePart_276 : decode cX4_takePart 276 = .ok (.goto 14, 3) := dk_167 0 14 (dk_at dksX4_takePart_11 18 rfl rfl)
theorem dX4_takePart_279 : decode cX4_takePart 279 = .ok (.iload 4, 2) := dk_21 4 (dk_at dksX4_takePart_11 21 rfl rfl)
theorem dX4_takePart_281 : decode cX4_takePart 281 = .ok (.ifCond .lt 8, 3) := dk_155 0 8 (dk_at dksX4_takePart_12 0 rfl rfl)
theorem dX4_takePart_284 : decode cX4_takePart 284 = .ok (.iload 4, 2) := dk_21 4 (dk_at dksX4_takePart_12 3 rfl rfl)
theorem dX4_takePart_286 : decode cX4_takePart 286 = .ok (.goto 4, 3) := dk_167 0 4 (dk_at dksX4_takePart_12 5 rfl rfl)
theorem dX4_takePart_289 : decode cX4_takePart 289 = .ok (.iload_n 2, 1) := dk_28 (dk_at dksX4_takePart_12 8 rfl rfl)
theorem dX4_takePart_290 : decode cX4_takePart 290 = .ok (.invokevirtual 324, 3) := dk_182 1 68 (dk_at dksX4_takePart_12 9 rfl rfl)
theorem dX4_takePart_293 : decode cX4_takePart 293 = .ok (.aload_n 0, 1) := dk_42 (dk_at dksX4_takePart_12 12 rfl rfl)
theorem dX4_takePart_294 : decode cX4_takePart 294 = .ok (.dup, 1) := dk_89 (dk_at dksX4_takePart_12 13 rfl rfl)
theorem dX4_takePart_295 : decode cX4_takePart 295 = .ok (.getfield 257, 3) := dk_180 1 1 (dk_at dksX4_takePart_12 14 rfl rfl)
theorem dX4_takePart_298 : decode cX4_takePart 298 = .ok (.iconst 1, 1) := dk_4 (dk_at dksX4_takePart_12 17 rfl rfl)
theorem dX4_takePart_299 : decode cX4_takePart 299 = .ok (.iadd, 1) := dk_96 (dk_at dksX4_takePart_12 18 rfl rfl)
theorem dX4_takePart_300 : decode cX4_takePart 300 = .ok (.putfield 257, 3) := dk_181 1 1 (dk_at dksX4_takePart_12 19 rfl rfl)
theorem dX4_takePart_303 : decode cX4_takePart 303 = .ok (.return_, 1) := dk_177 (dk_at dksX4_takePart_12 22 rfl rfl)
abbrev cX4_hasWord : ByteArray := prog_21_method_15_code
def yX4_hasWord : MethodName := ⟨RX4, "hasWord", "(I)Z"⟩
def dkwX4_hasWord_1 : List UInt8 := [28, 172]
abbrev dktX4_hasWord_1 : List UInt8 := dkwX4_hasWord_1 ++ []
def dkwX4_hasWord_0 : List UInt8 := [42, 27, 182, 1, 14, 61, 42, 89, 180, 1, 1, 28, 153, 0, 7, 4, 167, 0, 4, 3, 96, 181, 1, 1]
abbrev dktX4_hasWord_0 : List UInt8 := dkwX4_hasWord_0 ++ dktX4_hasWord_1
theorem dksX4_hasWord_0 : cX4_hasWord.data.toList.drop 0 = dktX4_hasWord_0 := by decide +kernel
theorem dksX4_hasWord_1 : cX4_hasWord.data.toList.drop 24 = dktX4_hasWord_1 := dk_seg dksX4_hasWord_0 24 rfl rfl
theorem dX4_hasWord_0 : decode cX4_hasWord 0 = .ok (.aload_n 0, 1) := dk_42 (dk_at dksX4_hasWord_0 0 rfl rfl)
theorem dX4_hasWord_1 : decode cX4_hasWord 1 = .ok (.iload_n 1, 1) := dk_27 (dk_at dksX4_hasWord_0 1 rfl rfl)
theorem dX4_hasWord_2 : decode cX4_hasWord 2 = .ok (.invokevirtual 270, 3) := dk_182 1 14 (dk_at dksX4_hasWord_0 2 rfl rfl)
theorem dX4_hasWord_5 : decode cX4_hasWord 5 = .ok (.istore_n 2, 1) := dk_61 (dk_at dksX4_hasWord_0 5 rfl rfl)
theorem dX4_hasWord_6 : decode cX4_hasWord 6 = .ok (.aload_n 0, 1) := dk_42 (dk_at dksX4_hasWord_0 6 rfl rfl)
theorem dX4_hasWord_7 : decode cX4_hasWord 7 = .ok (.dup, 1) := dk_89 (dk_at dksX4_hasWord_0 7 rfl rfl)
theorem dX4_hasWord_8 : decode cX4_hasWord 8 = .ok (.getfield 257, 3) := dk_180 1 1 (dk_at dksX4_hasWord_0 8 rfl rfl)
theorem dX4_hasWord_11 : decode cX4_hasWord 11 = .ok (.iload_n 2, 1) := dk_28 (dk_at dksX4_hasWord_0 11 rfl rfl)
theorem dX4_hasWord_12 : decode cX4_hasWord 12 = .ok (.ifCond .eq 7, 3) := dk_153 0 7 (dk_at dksX4_hasWord_0 12 rfl rfl)
theorem dX4_hasWord_15 : decode cX4_hasWord 15 = .ok (.iconst 1, 1) := dk_4 (dk_at dksX4_hasWord_0 15 rfl rfl)
theorem dX4_hasWord_16 : decode cX4_hasWord 16 = .ok (.goto 4, 3) := dk_167 0 4 (dk_at dksX4_hasWord_0 16 rfl rfl)
theorem dX4_hasWord_19 : decode cX4_hasWord 19 = .ok (.iconst 0, 1) := dk_3 (dk_at dksX4_hasWord_0 19 rfl rfl)
theorem dX4_hasWord_20 : decode cX4_hasWord 20 = .ok (.iadd, 1) := dk_96 (dk_at dksX4_hasWord_0 20 rfl rfl)
theorem dX4_hasWord_21 : decode cX4_hasWord 21 = .ok (.putfield 257, 3) := dk_181 1 1 (dk_at dksX4_hasWord_0 21 rfl rfl)
theorem dX4_hasWord_24 : decode cX4_hasWord 24 = .ok (.iload_n 2, 1) := dk_28 (dk_at dksX4_hasWord_1 0 rfl rfl)
theorem dX4_hasWord_25 : decode cX4_hasWord 25 = .ok (.ireturn, 1) := dk_172 (dk_at dksX4_hasWord_1 1 rfl rfl)
abbrev cX4_emit : ByteArray := prog_21_method_17_code
def yX4_emit : MethodName := ⟨RX4, "emit", "(II)V"⟩
def dkwX4_emit_1 : List UInt8 := [180, 1, 20, 96, 28, 79, 42, 89, 180, 1, 20, 4, 96, 181, 1, 20, 177]
abbrev dktX4_emit_1 : List UInt8 := dkwX4_emit_1 ++ []
def dkwX4_emit_0 : List UInt8 := [42, 180, 0, 94, 17, 75, 0, 42, 180, 1, 20, 96, 27, 79, 42, 180, 0, 97, 17, 75, 0, 42]
abbrev dktX4_emit_0 : List UInt8 := dkwX4_emit_0 ++ dktX4_emit_1
theorem dksX4_emit_0 : cX4_emit.data.toList.drop 0 = dktX4_emit_0 := by decide +kernel
theorem dksX4_emit_1 : cX4_emit.data.toList.drop 22 = dktX4_emit_1 := dk_seg dksX4_emit_0 22 rfl rfl
theorem dX4_emit_0 : decode cX4_emit 0 = .ok (.aload_n 0, 1) := dk_42 (dk_at dksX4_emit_0 0 rfl rfl)
theorem dX4_emit_1 : decode cX4_emit 1 = .ok (.getfield 94, 3) := dk_180 0 94 (dk_at dksX4_emit_0 1 rfl rfl)
theorem dX4_emit_4 : decode cX4_emit 4 = .ok (.sipush 19200, 3) := dk_17 75 0 (dk_at dksX4_emit_0 4 rfl rfl)
theorem dX4_emit_7 : decode cX4_emit 7 = .ok (.aload_n 0, 1) := dk_42 (dk_at dksX4_emit_0 7 rfl rfl)
theorem dX4_emit_8 : decode cX4_emit 8 = .ok (.getfield 276, 3) := dk_180 1 20 (dk_at dksX4_emit_0 8 rfl rfl)
theorem dX4_emit_11 : decode cX4_emit 11 = .ok (.iadd, 1) := dk_96 (dk_at dksX4_emit_0 11 rfl rfl)
theorem dX4_emit_12 : decode cX4_emit 12 = .ok (.iload_n 1, 1) := dk_27 (dk_at dksX4_emit_0 12 rfl rfl)
theorem dX4_emit_13 : decode cX4_emit 13 = .ok (.iastore, 1) := dk_79 (dk_at dksX4_emit_0 13 rfl rfl)
theorem dX4_emit_14 : decode cX4_emit 14 = .ok (.aload_n 0, 1) := dk_42 (dk_at dksX4_emit_0 14 rfl rfl)
theorem dX4_emit_15 : decode cX4_emit 15 = .ok (.getfield 97, 3) := dk_180 0 97 (dk_at dksX4_emit_0 15 rfl rfl)
theorem dX4_emit_18 : decode cX4_emit 18 = .ok (.sipush 19200, 3) := dk_17 75 0 (dk_at dksX4_emit_0 18 rfl rfl)
theorem dX4_emit_21 : decode cX4_emit 21 = .ok (.aload_n 0, 1) := dk_42 (dk_at dksX4_emit_0 21 rfl rfl)
theorem dX4_emit_22 : decode cX4_emit 22 = .ok (.getfield 276, 3) := dk_180 1 20 (dk_at dksX4_emit_1 0 rfl rfl)
theorem dX4_emit_25 : decode cX4_emit 25 = .ok (.iadd, 1) := dk_96 (dk_at dksX4_emit_1 3 rfl rfl)
theorem dX4_emit_26 : decode cX4_emit 26 = .ok (.iload_n 2, 1) := dk_28 (dk_at dksX4_emit_1 4 rfl rfl)
theorem dX4_emit_27 : decode cX4_emit 27 = .ok (.iastore, 1) := dk_79 (dk_at dksX4_emit_1 5 rfl rfl)
theorem dX4_emit_28 : decode cX4_emit 28 = .ok (.aload_n 0, 1) := dk_42 (dk_at dksX4_emit_1 6 rfl rfl)
theorem dX4_emit_29 : decode cX4_emit 29 = .ok (.dup, 1) := dk_89 (dk_at dksX4_emit_1 7 rfl rfl)
theorem dX4_emit_30 : decode cX4_emit 30 = .ok (.getfield 276, 3) := dk_180 1 20 (dk_at dksX4_emit_1 8 rfl rfl)
theorem dX4_emit_33 : decode cX4_emit 33 = .ok (.iconst 1, 1) := dk_4 (dk_at dksX4_emit_1 11 rfl rfl)
theorem dX4_emit_34 : decode cX4_emit 34 = .ok (.iadd, 1) := dk_96 (dk_at dksX4_emit_1 12 rfl rfl)
theorem dX4_emit_35 : decode cX4_emit 35 = .ok (.putfield 276, 3) := dk_181 1 20 (dk_at dksX4_emit_1 13 rfl rfl)
theorem dX4_emit_38 : decode cX4_emit 38 = .ok (.return_, 1) := dk_177 (dk_at dksX4_emit_1 16 rfl rfl)
abbrev cX4_takeNumber : ByteArray := prog_21_method_20_code
def yX4_takeNumber : MethodName := ⟨RX4, "takeNumber", "(I)I"⟩
def dkwX4_takeNumber_3 : List UInt8 := [96, 181, 1, 1, 42, 180, 0, 30, 42, 180, 1, 1, 4, 100, 47, 136, 172]
abbrev dktX4_takeNumber_3 : List UInt8 := dkwX4_takeNumber_3 ++ []
def dkwX4_takeNumber_2 : List UInt8 := [148, 158, 0, 8, 42, 7, 182, 1, 10, 42, 180, 1, 4, 158, 0, 5, 3, 172, 42, 89, 180, 1, 1, 4]
abbrev dktX4_takeNumber_2 : List UInt8 := dkwX4_takeNumber_2 ++ dktX4_takeNumber_3
def dkwX4_takeNumber_1 : List UInt8 := [182, 1, 10, 167, 0, 30, 42, 180, 1, 4, 154, 0, 23, 42, 180, 0, 30, 42, 180, 1, 1, 47, 27, 133]
abbrev dktX4_takeNumber_1 : List UInt8 := dkwX4_takeNumber_1 ++ dktX4_takeNumber_2
def dkwX4_takeNumber_0 : List UInt8 := [42, 180, 1, 4, 154, 0, 24, 42, 180, 0, 24, 42, 180, 1, 1, 46, 5, 159, 0, 11, 42, 4]
abbrev dktX4_takeNumber_0 : List UInt8 := dkwX4_takeNumber_0 ++ dktX4_takeNumber_1
theorem dksX4_takeNumber_0 : cX4_takeNumber.data.toList.drop 0 = dktX4_takeNumber_0 := by decide +kernel
theorem dksX4_takeNumber_1 : cX4_takeNumber.data.toList.drop 22 = dktX4_takeNumber_1 := dk_seg dksX4_takeNumber_0 22 rfl rfl
theorem dksX4_takeNumber_2 : cX4_takeNumber.data.toList.drop 46 = dktX4_takeNumber_2 := dk_seg dksX4_takeNumber_1 24 rfl rfl
theorem dksX4_takeNumber_3 : cX4_takeNumber.data.toList.drop 70 = dktX4_takeNumber_3 := dk_seg dksX4_takeNumber_2 24 rfl rfl
theorem dX4_takeNumber_0 : decode cX4_takeNumber 0 = .ok (.aload_n 0, 1) := dk_42 (dk_at dksX4_takeNumber_0 0 rfl rfl)
theorem dX4_takeNumber_1 : decode cX4_takeNumber 1 = .ok (.getfield 260, 3) := dk_180 1 4 (dk_at dksX4_takeNumber_0 1 rfl rfl)
theorem dX4_takeNumber_4 : decode cX4_takeNumber 4 = .ok (.ifCond .ne 24, 3) := dk_154 0 24 (dk_at dksX4_takeNumber_0 4 rfl rfl)
theorem dX4_takeNumber_7 : decode cX4_takeNumber 7 = .ok (.aload_n 0, 1) := dk_42 (dk_at dksX4_takeNumber_0 7 rfl rfl)
theorem dX4_takeNumber_8 : decode cX4_takeNumber 8 = .ok (.getfield 24, 3) := dk_180 0 24 (dk_at dksX4_takeNumber_0 8 rfl rfl)
theorem dX4_takeNumber_11 : decode cX4_takeNumber 11 = .ok (.aload_n 0, 1) := dk_42 (dk_at dksX4_takeNumber_0 11 rfl rfl)
theorem dX4_takeNumber_12 : decode cX4_takeNumber 12 = .ok (.getfield 257, 3) := dk_180 1 1 (dk_at dksX4_takeNumber_0 12 rfl rfl)
theorem dX4_takeNumber_15 : decode cX4_takeNumber 15 = .ok (.iaload, 1) := dk_46 (dk_at dksX4_takeNumber_0 15 rfl rfl)
theorem dX4_takeNumber_16 : decode cX4_takeNumber 16 = .ok (.iconst 2, 1) := dk_5 (dk_at dksX4_takeNumber_0 16 rfl rfl)
theorem dX4_takeNumber_17 : decode cX4_takeNumber 17 = .ok (.if_icmp .eq 11, 3) := dk_159 0 11 (dk_at dksX4_takeNumber_0 17 rfl rfl)
theorem dX4_takeNumber_20 : decode cX4_takeNumber 20 = .ok (.aload_n 0, 1) := dk_42 (dk_at dksX4_takeNumber_0 20 rfl rfl)
theorem dX4_takeNumber_21 : decode cX4_takeNumber 21 = .ok (.iconst 1, 1) := dk_4 (dk_at dksX4_takeNumber_0 21 rfl rfl)
theorem dX4_takeNumber_22 : decode cX4_takeNumber 22 = .ok (.invokevirtual 266, 3) := dk_182 1 10 (dk_at dksX4_takeNumber_1 0 rfl rfl)
theorem dX4_takeNumber_25 : decode cX4_takeNumber 25 = .ok (.goto 30, 3) := dk_167 0 30 (dk_at dksX4_takeNumber_1 3 rfl rfl)
theorem dX4_takeNumber_28 : decode cX4_takeNumber 28 = .ok (.aload_n 0, 1) := dk_42 (dk_at dksX4_takeNumber_1 6 rfl rfl)
theorem dX4_takeNumber_29 : decode cX4_takeNumber 29 = .ok (.getfield 260, 3) := dk_180 1 4 (dk_at dksX4_takeNumber_1 7 rfl rfl)
theorem dX4_takeNumber_32 : decode cX4_takeNumber 32 = .ok (.ifCond .ne 23, 3) := dk_154 0 23 (dk_at dksX4_takeNumber_1 10 rfl rfl)
theorem dX4_takeNumber_35 : decode cX4_takeNumber 35 = .ok (.aload_n 0, 1) := dk_42 (dk_at dksX4_takeNumber_1 13 rfl rfl)
theorem dX4_takeNumber_36 : decode cX4_takeNumber 36 = .ok (.getfield 30, 3) := dk_180 0 30 (dk_at dksX4_takeNumber_1 14 rfl rfl)
theorem dX4_takeNumber_39 : decode cX4_takeNumber 39 = .ok (.aload_n 0, 1) := dk_42 (dk_at dksX4_takeNumber_1 17 rfl rfl)
theorem dX4_takeNumber_40 : decode cX4_takeNumber 40 = .ok (.getfield 257, 3) := dk_180 1 1 (dk_at dksX4_takeNumber_1 18 rfl rfl)
theorem dX4_takeNumber_43 : decode cX4_takeNumber 43 = .ok (.laload, 1) := dk_47 (dk_at dksX4_takeNumber_1 21 rfl rfl)
theorem dX4_takeNumber_44 : decode cX4_takeNumber 44 = .ok (.iload_n 1, 1) := dk_27 (dk_at dksX4_takeNumber_1 22 rfl rfl)
theorem dX4_takeNumber_45 : decode cX4_takeNumber 45 = .ok (.i2l, 1) := dk_133 (dk_at dksX4_takeNumber_1 23 rfl rfl)
theorem dX4_takeNumber_46 : decode cX4_takeNumber 46 = .ok (.lcmp, 1) := dk_148 (dk_at dksX4_takeNumber_2 0 rfl rfl)
theorem dX4_takeNumber_47 : decode cX4_takeNumber 47 = .ok (.ifCond .le 8, 3) := dk_158 0 8 (dk_at dksX4_takeNumber_2 1 rfl rfl)
theorem dX4_takeNumber_50 : decode cX4_takeNumber 50 = .ok (.aload_n 0, 1) := dk_42 (dk_at dksX4_takeNumber_2 4 rfl rfl)
theorem dX4_takeNumber_51 : decode cX4_takeNumber 51 = .ok (.iconst 4, 1) := dk_7 (dk_at dksX4_takeNumber_2 5 rfl rfl)
theorem dX4_takeNumber_52 : decode cX4_takeNumber 52 = .ok (.invokevirtual 266, 3) := dk_182 1 10 (dk_at dksX4_takeNumber_2 6 rfl rfl)
theorem dX4_takeNumber_55 : decode cX4_takeNumber 55 = .ok (.aload_n 0, 1) := dk_42 (dk_at dksX4_takeNumber_2 9 rfl rfl)
theorem dX4_takeNumber_56 : decode cX4_takeNumber 56 = .ok (.getfield 260, 3) := dk_180 1 4 (dk_at dksX4_takeNumber_2 10 rfl rfl)
theorem dX4_takeNumber_59 : decode cX4_takeNumber 59 = .ok (.ifCond .le 5, 3) := dk_158 0 5 (dk_at dksX4_takeNumber_2 13 rfl rfl)
theorem dX4_takeNumber_62 : decode cX4_takeNumber 62 = .ok (.iconst 0, 1) := dk_3 (dk_at dksX4_takeNumber_2 16 rfl rfl)
theorem dX4_takeNumber_63 : decode cX4_takeNumber 63 = .ok (.ireturn, 1) := dk_172 (dk_at dksX4_takeNumber_2 17 rfl rfl)
theorem dX4_takeNumber_64 : decode cX4_takeNumber 64 = .ok (.aload_n 0, 1) := dk_42 (dk_at dksX4_takeNumber_2 18 rfl rfl)
theorem dX4_takeNumber_65 : decode cX4_takeNumber 65 = .ok (.dup, 1) := dk_89 (dk_at dksX4_takeNumber_2 19 rfl rfl)
theorem dX4_takeNumber_66 : decode cX4_takeNumber 66 = .ok (.getfield 257, 3) := dk_180 1 1 (dk_at dksX4_takeNumber_2 20 rfl rfl)
theorem dX4_takeNumber_69 : decode cX4_takeNumber 69 = .ok (.iconst 1, 1) := dk_4 (dk_at dksX4_takeNumber_2 23 rfl rfl)
theorem dX4_takeNumber_70 : decode cX4_takeNumber 70 = .ok (.iadd, 1) := dk_96 (dk_at dksX4_takeNumber_3 0 rfl rfl)
theorem dX4_takeNumber_71 : decode cX4_takeNumber 71 = .ok (.putfield 257, 3) := dk_181 1 1 (dk_at dksX4_takeNumber_3 1 rfl rfl)
theorem dX4_takeNumber_74 : decode cX4_takeNumber 74 = .ok (.aload_n 0, 1) := dk_42 (dk_at dksX4_takeNumber_3 4 rfl rfl)
theorem dX4_takeNumber_75 : decode cX4_takeNumber 75 = .ok (.getfield 30, 3) := dk_180 0 30 (dk_at dksX4_takeNumber_3 5 rfl rfl)
theorem dX4_takeNumber_78 : decode cX4_takeNumber 78 = .ok (.aload_n 0, 1) := dk_42 (dk_at dksX4_takeNumber_3 8 rfl rfl)
theorem dX4_takeNumber_79 : decode cX4_takeNumber 79 = .ok (.getfield 257, 3) := dk_180 1 1 (dk_at dksX4_takeNumber_3 9 rfl rfl)
theorem dX4_takeNumber_82 : decode cX4_takeNumber 82 = .ok (.iconst 1, 1) := dk_4 (dk_at dksX4_takeNumber_3 12 rfl rfl)
theorem dX4_takeNumber_83 : decode cX4_takeNumber 83 = .ok (.isub, 1) := dk_100 (dk_at dksX4_takeNumber_3 13 rfl rfl)
theorem dX4_takeNumber_84 : decode cX4_takeNumber 84 = .ok (.laload, 1) := dk_47 (dk_at dksX4_takeNumber_3 14 rfl rfl)
theorem dX4_takeNumber_85 : decode cX4_takeNumber 85 = .ok (.l2i, 1) := dk_136 (dk_at dksX4_takeNumber_3 15 rfl rfl)
theorem dX4_takeNumber_86 : decode cX4_takeNumber 86 = .ok (.ireturn, 1) := dk_172 (dk_at dksX4_takeNumber_3 16 rfl rfl)
abbrev cX4_hasSign : ByteArray := prog_21_method_14_code
def yX4_hasSign : MethodName := ⟨RX4, "hasSign", "(I)Z"⟩
def dkwX4_hasSign_1 : List UInt8 := [28, 172]
abbrev dktX4_hasSign_1 : List UInt8 := dkwX4_hasSign_1 ++ []
def dkwX4_hasSign_0 : List UInt8 := [42, 27, 182, 1, 7, 61, 42, 89, 180, 1, 1, 28, 153, 0, 7, 4, 167, 0, 4, 3, 96, 181, 1, 1]
abbrev dktX4_hasSign_0 : List UInt8 := dkwX4_hasSign_0 ++ dktX4_hasSign_1
theorem dksX4_hasSign_0 : cX4_hasSign.data.toList.drop 0 = dktX4_hasSign_0 := by decide +kernel
theorem dksX4_hasSign_1 : cX4_hasSign.data.toList.drop 24 = dktX4_hasSign_1 := dk_seg dksX4_hasSign_0 24 rfl rfl
theorem dX4_hasSign_0 : decode cX4_hasSign 0 = .ok (.aload_n 0, 1) := dk_42 (dk_at dksX4_hasSign_0 0 rfl rfl)
theorem dX4_hasSign_1 : decode cX4_hasSign 1 = .ok (.iload_n 1, 1) := dk_27 (dk_at dksX4_hasSign_0 1 rfl rfl)
theorem dX4_hasSign_2 : decode cX4_hasSign 2 = .ok (.invokevirtual 263, 3) := dk_182 1 7 (dk_at dksX4_hasSign_0 2 rfl rfl)
theorem dX4_hasSign_5 : decode cX4_hasSign 5 = .ok (.istore_n 2, 1) := dk_61 (dk_at dksX4_hasSign_0 5 rfl rfl)
theorem dX4_hasSign_6 : decode cX4_hasSign 6 = .ok (.aload_n 0, 1) := dk_42 (dk_at dksX4_hasSign_0 6 rfl rfl)
theorem dX4_hasSign_7 : decode cX4_hasSign 7 = .ok (.dup, 1) := dk_89 (dk_at dksX4_hasSign_0 7 rfl rfl)
theorem dX4_hasSign_8 : decode cX4_hasSign 8 = .ok (.getfield 257, 3) := dk_180 1 1 (dk_at dksX4_hasSign_0 8 rfl rfl)
theorem dX4_hasSign_11 : decode cX4_hasSign 11 = .ok (.iload_n 2, 1) := dk_28 (dk_at dksX4_hasSign_0 11 rfl rfl)
theorem dX4_hasSign_12 : decode cX4_hasSign 12 = .ok (.ifCond .eq 7, 3) := dk_153 0 7 (dk_at dksX4_hasSign_0 12 rfl rfl)
theorem dX4_hasSign_15 : decode cX4_hasSign 15 = .ok (.iconst 1, 1) := dk_4 (dk_at dksX4_hasSign_0 15 rfl rfl)
theorem dX4_hasSign_16 : decode cX4_hasSign 16 = .ok (.goto 4, 3) := dk_167 0 4 (dk_at dksX4_hasSign_0 16 rfl rfl)
theorem dX4_hasSign_19 : decode cX4_hasSign 19 = .ok (.iconst 0, 1) := dk_3 (dk_at dksX4_hasSign_0 19 rfl rfl)
theorem dX4_hasSign_20 : decode cX4_hasSign 20 = .ok (.iadd, 1) := dk_96 (dk_at dksX4_hasSign_0 20 rfl rfl)
theorem dX4_hasSign_21 : decode cX4_hasSign 21 = .ok (.putfield 257, 3) := dk_181 1 1 (dk_at dksX4_hasSign_0 21 rfl rfl)
theorem dX4_hasSign_24 : decode cX4_hasSign 24 = .ok (.iload_n 2, 1) := dk_28 (dk_at dksX4_hasSign_1 0 rfl rfl)
theorem dX4_hasSign_25 : decode cX4_hasSign 25 = .ok (.ireturn, 1) := dk_172 (dk_at dksX4_hasSign_1 1 rfl rfl)
abbrev cX4_takeWord : ByteArray := prog_21_method_16_code
def yX4_takeWord : MethodName := ⟨RX4, "takeWord", "(I)V"⟩
def dkwX4_takeWord_0 : List UInt8 := [42, 27, 182, 1, 17, 154, 0, 8, 42, 4, 182, 1, 10, 177]
abbrev dktX4_takeWord_0 : List UInt8 := dkwX4_takeWord_0 ++ []
theorem dksX4_takeWord_0 : cX4_takeWord.data.toList.drop 0 = dktX4_takeWord_0 := by decide +kernel
theorem dX4_takeWord_0 : decode cX4_takeWord 0 = .ok (.aload_n 0, 1) := dk_42 (dk_at dksX4_takeWord_0 0 rfl rfl)
theorem dX4_takeWord_1 : decode cX4_takeWord 1 = .ok (.iload_n 1, 1) := dk_27 (dk_at dksX4_takeWord_0 1 rfl rfl)
theorem dX4_takeWord_2 : decode cX4_takeWord 2 = .ok (.invokevirtual 273, 3) := dk_182 1 17 (dk_at dksX4_takeWord_0 2 rfl rfl)
theorem dX4_takeWord_5 : decode cX4_takeWord 5 = .ok (.ifCond .ne 8, 3) := dk_154 0 8 (dk_at dksX4_takeWord_0 5 rfl rfl)
theorem dX4_takeWord_8 : decode cX4_takeWord 8 = .ok (.aload_n 0, 1) := dk_42 (dk_at dksX4_takeWord_0 8 rfl rfl)
theorem dX4_takeWord_9 : decode cX4_takeWord 9 = .ok (.iconst 1, 1) := dk_4 (dk_at dksX4_takeWord_0 9 rfl rfl)
theorem dX4_takeWord_10 : decode cX4_takeWord 10 = .ok (.invokevirtual 266, 3) := dk_182 1 10 (dk_at dksX4_takeWord_0 10 rfl rfl)
theorem dX4_takeWord_13 : decode cX4_takeWord 13 = .ok (.return_, 1) := dk_177 (dk_at dksX4_takeWord_0 13 rfl rfl)
abbrev cX4_keeps : ByteArray := prog_21_method_19_code
def yX4_keeps : MethodName := ⟨RX4, "keeps", "(II)V"⟩
def dkwX4_keeps_10 : List UInt8 := [132, 4, 1, 167, 255, 196, 42, 89, 180, 1, 23, 4, 96, 181, 1, 23, 177]
abbrev dktX4_keeps_10 : List UInt8 := dkwX4_keeps_10 ++ []
def dkwX4_keeps_9 : List UInt8 := [180, 0, 97, 17, 4, 176, 29, 104, 21, 4, 96, 42, 180, 0, 97, 17, 75, 0, 21, 4, 96, 46, 79]
abbrev dktX4_keeps_9 : List UInt8 := dkwX4_keeps_9 ++ dktX4_keeps_10
def dkwX4_keeps_8 : List UInt8 := [180, 0, 94, 17, 4, 176, 29, 104, 21, 4, 96, 42, 180, 0, 94, 17, 75, 0, 21, 4, 96, 46, 79, 42]
abbrev dktX4_keeps_8 : List UInt8 := dkwX4_keeps_8 ++ dktX4_keeps_9
def dkwX4_keeps_7 : List UInt8 := [104, 96, 79, 132, 4, 1, 167, 255, 129, 3, 54, 4, 21, 4, 42, 180, 1, 20, 162, 0, 57, 42]
abbrev dktX4_keeps_7 : List UInt8 := dkwX4_keeps_7 ++ dktX4_keeps_8
def dkwX4_keeps_6 : List UInt8 := [29, 104, 21, 4, 96, 42, 180, 0, 88, 17, 1, 0, 21, 4, 96, 46, 17, 75, 0, 100, 17, 4, 176, 29]
abbrev dktX4_keeps_6 : List UInt8 := dkwX4_keeps_6 ++ dktX4_keeps_7
def dkwX4_keeps_5 : List UInt8 := [17, 1, 0, 21, 4, 96, 46, 17, 75, 0, 100, 17, 4, 176, 29, 104, 96, 79, 42, 180, 0, 88, 16, 16]
abbrev dktX4_keeps_5 : List UInt8 := dkwX4_keeps_5 ++ dktX4_keeps_6
def dkwX4_keeps_4 : List UInt8 := [17, 1, 0, 21, 4, 96, 46, 79, 42, 180, 0, 85, 16, 16, 29, 104, 21, 4, 96, 42, 180, 0, 85]
abbrev dktX4_keeps_4 : List UInt8 := dkwX4_keeps_4 ++ dktX4_keeps_5
def dkwX4_keeps_3 : List UInt8 := [17, 1, 0, 21, 4, 96, 46, 79, 42, 180, 0, 82, 16, 16, 29, 104, 21, 4, 96, 42, 180, 0, 82]
abbrev dktX4_keeps_3 : List UInt8 := dkwX4_keeps_3 ++ dktX4_keeps_4
def dkwX4_keeps_2 : List UInt8 := [180, 0, 76, 16, 16, 46, 162, 0, 121, 42, 180, 0, 79, 16, 16, 29, 104, 21, 4, 96, 42, 180, 0, 79]
abbrev dktX4_keeps_2 : List UInt8 := dkwX4_keeps_2 ++ dktX4_keeps_3
def dkwX4_keeps_1 : List UInt8 := [42, 180, 1, 39, 79, 42, 180, 0, 76, 29, 42, 180, 0, 76, 16, 16, 46, 79, 3, 54, 4, 21, 4, 42]
abbrev dktX4_keeps_1 : List UInt8 := dkwX4_keeps_1 ++ dktX4_keeps_2
def dkwX4_keeps_0 : List UInt8 := [42, 180, 1, 23, 62, 42, 180, 0, 67, 29, 27, 79, 42, 180, 0, 70, 29, 28, 79, 42, 180, 0, 73, 29]
abbrev dktX4_keeps_0 : List UInt8 := dkwX4_keeps_0 ++ dktX4_keeps_1
theorem dksX4_keeps_0 : cX4_keeps.data.toList.drop 0 = dktX4_keeps_0 := by decide +kernel
theorem dksX4_keeps_1 : cX4_keeps.data.toList.drop 24 = dktX4_keeps_1 := dk_seg dksX4_keeps_0 24 rfl rfl
theorem dksX4_keeps_2 : cX4_keeps.data.toList.drop 48 = dktX4_keeps_2 := dk_seg dksX4_keeps_1 24 rfl rfl
theorem dksX4_keeps_3 : cX4_keeps.data.toList.drop 72 = dktX4_keeps_3 := dk_seg dksX4_keeps_2 24 rfl rfl
theorem dksX4_keeps_4 : cX4_keeps.data.toList.drop 95 = dktX4_keeps_4 := dk_seg dksX4_keeps_3 23 rfl rfl
theorem dksX4_keeps_5 : cX4_keeps.data.toList.drop 118 = dktX4_keeps_5 := dk_seg dksX4_keeps_4 23 rfl rfl
theorem dksX4_keeps_6 : cX4_keeps.data.toList.drop 142 = dktX4_keeps_6 := dk_seg dksX4_keeps_5 24 rfl rfl
theorem dksX4_keeps_7 : cX4_keeps.data.toList.drop 166 = dktX4_keeps_7 := dk_seg dksX4_keeps_6 24 rfl rfl
theorem dksX4_keeps_8 : cX4_keeps.data.toList.drop 188 = dktX4_keeps_8 := dk_seg dksX4_keeps_7 22 rfl rfl
theorem dksX4_keeps_9 : cX4_keeps.data.toList.drop 212 = dktX4_keeps_9 := dk_seg dksX4_keeps_8 24 rfl rfl
theorem dksX4_keeps_10 : cX4_keeps.data.toList.drop 235 = dktX4_keeps_10 := dk_seg dksX4_keeps_9 23 rfl rfl
theorem dX4_keeps_0 : decode cX4_keeps 0 = .ok (.aload_n 0, 1) := dk_42 (dk_at dksX4_keeps_0 0 rfl rfl)
theorem dX4_keeps_1 : decode cX4_keeps 1 = .ok (.getfield 279, 3) := dk_180 1 23 (dk_at dksX4_keeps_0 1 rfl rfl)
theorem dX4_keeps_4 : decode cX4_keeps 4 = .ok (.istore_n 3, 1) := dk_62 (dk_at dksX4_keeps_0 4 rfl rfl)
theorem dX4_keeps_5 : decode cX4_keeps 5 = .ok (.aload_n 0, 1) := dk_42 (dk_at dksX4_keeps_0 5 rfl rfl)
theorem dX4_keeps_6 : decode cX4_keeps 6 = .ok (.getfield 67, 3) := dk_180 0 67 (dk_at dksX4_keeps_0 6 rfl rfl)
theorem dX4_keeps_9 : decode cX4_keeps 9 = .ok (.iload_n 3, 1) := dk_29 (dk_at dksX4_keeps_0 9 rfl rfl)
theorem dX4_keeps_10 : decode cX4_keeps 10 = .ok (.iload_n 1, 1) := dk_27 (dk_at dksX4_keeps_0 10 rfl rfl)
theorem dX4_keeps_11 : decode cX4_keeps 11 = .ok (.iastore, 1) := dk_79 (dk_at dksX4_keeps_0 11 rfl rfl)
theorem dX4_keeps_12 : decode cX4_keeps 12 = .ok (.aload_n 0, 1) := dk_42 (dk_at dksX4_keeps_0 12 rfl rfl)
theorem dX4_keeps_13 : decode cX4_keeps 13 = .ok (.getfield 70, 3) := dk_180 0 70 (dk_at dksX4_keeps_0 13 rfl rfl)
theorem dX4_keeps_16 : decode cX4_keeps 16 = .ok (.iload_n 3, 1) := dk_29 (dk_at dksX4_keeps_0 16 rfl rfl)
theorem dX4_keeps_17 : decode cX4_keeps 17 = .ok (.iload_n 2, 1) := dk_28 (dk_at dksX4_keeps_0 17 rfl rfl)
theorem dX4_keeps_18 : decode cX4_keeps 18 = .ok (.iastore, 1) := dk_79 (dk_at dksX4_keeps_0 18 rfl rfl)
theorem dX4_keeps_19 : decode cX4_keeps 19 = .ok (.aload_n 0, 1) := dk_42 (dk_at dksX4_keeps_0 19 rfl rfl)
theorem dX4_keeps_20 : decode cX4_keeps 20 = .ok (.getfield 73, 3) := dk_180 0 73 (dk_at dksX4_keeps_0 20 rfl rfl)
theorem dX4_keeps_23 : decode cX4_keeps 23 = .ok (.iload_n 3, 1) := dk_29 (dk_at dksX4_keeps_0 23 rfl rfl)
theorem dX4_keeps_24 : decode cX4_keeps 24 = .ok (.aload_n 0, 1) := dk_42 (dk_at dksX4_keeps_1 0 rfl rfl)
theorem dX4_keeps_25 : decode cX4_keeps 25 = .ok (.getfield 295, 3) := dk_180 1 39 (dk_at dksX4_keeps_1 1 rfl rfl)
theorem dX4_keeps_28 : decode cX4_keeps 28 = .ok (.iastore, 1) := dk_79 (dk_at dksX4_keeps_1 4 rfl rfl)
theorem dX4_keeps_29 : decode cX4_keeps 29 = .ok (.aload_n 0, 1) := dk_42 (dk_at dksX4_keeps_1 5 rfl rfl)
theorem dX4_keeps_30 : decode cX4_keeps 30 = .ok (.getfield 76, 3) := dk_180 0 76 (dk_at dksX4_keeps_1 6 rfl rfl)
theorem dX4_keeps_33 : decode cX4_keeps 33 = .ok (.iload_n 3, 1) := dk_29 (dk_at dksX4_keeps_1 9 rfl rfl)
theorem dX4_keeps_34 : decode cX4_keeps 34 = .ok (.aload_n 0, 1) := dk_42 (dk_at dksX4_keeps_1 10 rfl rfl)
theorem dX4_keeps_35 : decode cX4_keeps 35 = .ok (.getfield 76, 3) := dk_180 0 76 (dk_at dksX4_keeps_1 11 rfl rfl)
theorem dX4_keeps_38 : decode cX4_keeps 38 = .ok (.bipush 16, 2) := dk_16 16 (dk_at dksX4_keeps_1 14 rfl rfl)
theorem dX4_keeps_40 : decode cX4_keeps 40 = .ok (.iaload, 1) := dk_46 (dk_at dksX4_keeps_1 16 rfl rfl)
theorem dX4_keeps_41 : decode cX4_keeps 41 = .ok (.iastore, 1) := dk_79 (dk_at dksX4_keeps_1 17 rfl rfl)
theorem dX4_keeps_42 : decode cX4_keeps 42 = .ok (.iconst 0, 1) := dk_3 (dk_at dksX4_keeps_1 18 rfl rfl)
theorem dX4_keeps_43 : decode cX4_keeps 43 = .ok (.istore 4, 2) := dk_54 4 (dk_at dksX4_keeps_1 19 rfl rfl)
theorem dX4_keeps_45 : decode cX4_keeps 45 = .ok (.iload 4, 2) := dk_21 4 (dk_at dksX4_keeps_1 21 rfl rfl)
theorem dX4_keeps_47 : decode cX4_keeps 47 = .ok (.aload_n 0, 1) := dk_42 (dk_at dksX4_keeps_1 23 rfl rfl)
theorem dX4_keeps_48 : decode cX4_keeps 48 = .ok (.getfield 76, 3) := dk_180 0 76 (dk_at dksX4_keeps_2 0 rfl rfl)
theorem dX4_keeps_51 : decode cX4_keeps 51 = .ok (.bipush 16, 2) := dk_16 16 (dk_at dksX4_keeps_2 3 rfl rfl)
theorem dX4_keeps_53 : decode cX4_keeps 53 = .ok (.iaload, 1) := dk_46 (dk_at dksX4_keeps_2 5 rfl rfl)
theorem dX4_keeps_54 : decode cX4_keeps 54 = .ok (.if_icmp .ge 121, 3) := dk_162 0 121 (dk_at dksX4_keeps_2 6 rfl rfl)
theorem dX4_keeps_57 : decode cX4_keeps 57 = .ok (.aload_n 0, 1) := dk_42 (dk_at dksX4_keeps_2 9 rfl rfl)
theorem dX4_keeps_58 : decode cX4_keeps 58 = .ok (.getfield 79, 3) := dk_180 0 79 (dk_at dksX4_keeps_2 10 rfl rfl)
theorem dX4_keeps_61 : decode cX4_keeps 61 = .ok (.bipush 16, 2) := dk_16 16 (dk_at dksX4_keeps_2 13 rfl rfl)
theorem dX4_keeps_63 : decode cX4_keeps 63 = .ok (.iload_n 3, 1) := dk_29 (dk_at dksX4_keeps_2 15 rfl rfl)
theorem dX4_keeps_64 : decode cX4_keeps 64 = .ok (.imul, 1) := dk_104 (dk_at dksX4_keeps_2 16 rfl rfl)
theorem dX4_keeps_65 : decode cX4_keeps 65 = .ok (.iload 4, 2) := dk_21 4 (dk_at dksX4_keeps_2 17 rfl rfl)
theorem dX4_keeps_67 : decode cX4_keeps 67 = .ok (.iadd, 1) := dk_96 (dk_at dksX4_keeps_2 19 rfl rfl)
theorem dX4_keeps_68 : decode cX4_keeps 68 = .ok (.aload_n 0, 1) := dk_42 (dk_at dksX4_keeps_2 20 rfl rfl)
theorem dX4_keeps_69 : decode cX4_keeps 69 = .ok (.getfield 79, 3) := dk_180 0 79 (dk_at dksX4_keeps_2 21 rfl rfl)
theorem dX4_keeps_72 : decode cX4_keeps 72 = .ok (.sipush 256, 3) := dk_17 1 0 (dk_at dksX4_keeps_3 0 rfl rfl)
theorem dX4_keeps_75 : decode cX4_keeps 75 = .ok (.iload 4, 2) := dk_21 4 (dk_at dksX4_keeps_3 3 rfl rfl)
theorem dX4_keeps_77 : decode cX4_keeps 77 = .ok (.iadd, 1) := dk_96 (dk_at dksX4_keeps_3 5 rfl rfl)
theorem dX4_keeps_78 : decode cX4_keeps 78 = .ok (.iaload, 1) := dk_46 (dk_at dksX4_keeps_3 6 rfl rfl)
theorem dX4_keeps_79 : decode cX4_keeps 79 = .ok (.iastore, 1) := dk_79 (dk_at dksX4_keeps_3 7 rfl rfl)
theorem dX4_keeps_80 : decode cX4_keeps 80 = .ok (.aload_n 0, 1) := dk_42 (dk_at dksX4_keeps_3 8 rfl rfl)
theorem dX4_keeps_81 : decode cX4_keeps 81 = .ok (.getfield 82, 3) := dk_180 0 82 (dk_at dksX4_keeps_3 9 rfl rfl)
theorem dX4_keeps_84 : decode cX4_keeps 84 = .ok (.bipush 16, 2) := dk_16 16 (dk_at dksX4_keeps_3 12 rfl rfl)
theorem dX4_keeps_86 : decode cX4_keeps 86 = .ok (.iload_n 3, 1) := dk_29 (dk_at dksX4_keeps_3 14 rfl rfl)
theorem dX4_keeps_87 : decode cX4_keeps 87 = .ok (.imul, 1) := dk_104 (dk_at dksX4_keeps_3 15 rfl rfl)
theorem dX4_keeps_88 : decode cX4_keeps 88 = .ok (.iload 4, 2) := dk_21 4 (dk_at dksX4_keeps_3 16 rfl rfl)
theorem dX4_keeps_90 : decode cX4_keeps 90 = .ok (.iadd, 1) := dk_96 (dk_at dksX4_keeps_3 18 rfl rfl)
theorem dX4_keeps_91 : decode cX4_keeps 91 = .ok (.aload_n 0, 1) := dk_42 (dk_at dksX4_keeps_3 19 rfl rfl)
theorem dX4_keeps_92 : decode cX4_keeps 92 = .ok (.getfield 82, 3) := dk_180 0 82 (dk_at dksX4_keeps_3 20 rfl rfl)
theorem dX4_keeps_95 : decode cX4_keeps 95 = .ok (.sipush 256, 3) := dk_17 1 0 (dk_at dksX4_keeps_4 0 rfl rfl)
theorem dX4_keeps_98 : decode cX4_keeps 98 = .ok (.iload 4, 2) := dk_21 4 (dk_at dksX4_keeps_4 3 rfl rfl)
theorem dX4_keeps_100 : decode cX4_keeps 100 = .ok (.iadd, 1) := dk_96 (dk_at dksX4_keeps_4 5 rfl rfl)
theorem dX4_keeps_101 : decode cX4_keeps 101 = .ok (.iaload, 1) := dk_46 (dk_at dksX4_keeps_4 6 rfl rfl)
theorem dX4_keeps_102 : decode cX4_keeps 102 = .ok (.iastore, 1) := dk_79 (dk_at dksX4_keeps_4 7 rfl rfl)
theorem dX4_keeps_103 : decode cX4_keeps 103 = .ok (.aload_n 0, 1) := dk_42 (dk_at dksX4_keeps_4 8 rfl rfl)
theorem dX4_keeps_104 : decode cX4_keeps 104 = .ok (.getfield 85, 3) := dk_180 0 85 (dk_at dksX4_keeps_4 9 rfl rfl)
theorem dX4_keeps_107 : decode cX4_keeps 107 = .ok (.bipush 16, 2) := dk_16 16 (dk_at dksX4_keeps_4 12 rfl rfl)
theorem dX4_keeps_109 : decode cX4_keeps 109 = .ok (.iload_n 3, 1) := dk_29 (dk_at dksX4_keeps_4 14 rfl rfl)
theorem dX4_keeps_110 : decode cX4_keeps 110 = .ok (.imul, 1) := dk_104 (dk_at dksX4_keeps_4 15 rfl rfl)
theorem dX4_keeps_111 : decode cX4_keeps 111 = .ok (.iload 4, 2) := dk_21 4 (dk_at dksX4_keeps_4 16 rfl rfl)
theorem dX4_keeps_113 : decode cX4_keeps 113 = .ok (.iadd, 1) := dk_96 (dk_at dksX4_keeps_4 18 rfl rfl)
theorem dX4_keeps_114 : decode cX4_keeps 114 = .ok (.aload_n 0, 1) := dk_42 (dk_at dksX4_keeps_4 19 rfl rfl)
theorem dX4_keeps_115 : decode cX4_keeps 115 = .ok (.getfield 85, 3) := dk_180 0 85 (dk_at dksX4_keeps_4 20 rfl rfl)
theorem dX4_keeps_118 : decode cX4_keeps 118 = .ok (.sipush 256, 3) := dk_17 1 0 (dk_at dksX4_keeps_5 0 rfl rfl)
theorem dX4_keeps_121 : decode cX4_keeps 121 = .ok (.iload 4, 2) := dk_21 4 (dk_at dksX4_keeps_5 3 rfl rfl)
theorem dX4_keeps_123 : decode cX4_keeps 123 = .ok (.iadd, 1) := dk_96 (dk_at dksX4_keeps_5 5 rfl rfl)
theorem dX4_keeps_124 : decode cX4_keeps 124 = .ok (.iaload, 1) := dk_46 (dk_at dksX4_keeps_5 6 rfl rfl)
theorem dX4_keeps_125 : decode cX4_keeps 125 = .ok (.sipush 19200, 3) := dk_17 75 0 (dk_at dksX4_keeps_5 7 rfl rfl)
theorem dX4_keeps_128 : decode cX4_keeps 128 = .ok (.isub, 1) := dk_100 (dk_at dksX4_keeps_5 10 rfl rfl)
theorem dX4_keeps_129 : decode cX4_keeps 129 = .ok (.sipush 1200, 3) := dk_17 4 176 (dk_at dksX4_keeps_5 11 rfl rfl)
theorem dX4_keeps_132 : decode cX4_keeps 132 = .ok (.iload_n 3, 1) := dk_29 (dk_at dksX4_keeps_5 14 rfl rfl)
theorem dX4_keeps_133 : decode cX4_keeps 133 = .ok (.imul, 1) := dk_104 (dk_at dksX4_keeps_5 15 rfl rfl)
theorem dX4_keeps_134 : decode cX4_keeps 134 = .ok (.iadd, 1) := dk_96 (dk_at dksX4_keeps_5 16 rfl rfl)
theorem dX4_keeps_135 : decode cX4_keeps 135 = .ok (.iastore, 1) := dk_79 (dk_at dksX4_keeps_5 17 rfl rfl)
theorem dX4_keeps_136 : decode cX4_keeps 136 = .ok (.aload_n 0, 1) := dk_42 (dk_at dksX4_keeps_5 18 rfl rfl)
theorem dX4_keeps_137 : decode cX4_keeps 137 = .ok (.getfield 88, 3) := dk_180 0 88 (dk_at dksX4_keeps_5 19 rfl rfl)
theorem dX4_keeps_140 : decode cX4_keeps 140 = .ok (.bipush 16, 2) := dk_16 16 (dk_at dksX4_keeps_5 22 rfl rfl)
theorem dX4_keeps_142 : decode cX4_keeps 142 = .ok (.iload_n 3, 1) := dk_29 (dk_at dksX4_keeps_6 0 rfl rfl)
theorem dX4_keeps_143 : decode cX4_keeps 143 = .ok (.imul, 1) := dk_104 (dk_at dksX4_keeps_6 1 rfl rfl)
theorem dX4_keeps_144 : decode cX4_keeps 144 = .ok (.iload 4, 2) := dk_21 4 (dk_at dksX4_keeps_6 2 rfl rfl)
theorem dX4_keeps_146 : decode cX4_keeps 146 = .ok (.iadd, 1) := dk_96 (dk_at dksX4_keeps_6 4 rfl rfl)
theorem dX4_keeps_147 : decode cX4_keeps 147 = .ok (.aload_n 0, 1) := dk_42 (dk_at dksX4_keeps_6 5 rfl rfl)
theorem dX4_keeps_148 : decode cX4_keeps 148 = .ok (.getfield 88, 3) := dk_180 0 88 (dk_at dksX4_keeps_6 6 rfl rfl)
theorem dX4_keeps_151 : decode cX4_keeps 151 = .ok (.sipush 256, 3) := dk_17 1 0 (dk_at dksX4_keeps_6 9 rfl rfl)
theorem dX4_keeps_154 : decode cX4_keeps 154 = .ok (.iload 4, 2) := dk_21 4 (dk_at dksX4_keeps_6 12 rfl rfl)
theorem dX4_keeps_156 : decode cX4_keeps 156 = .ok (.iadd, 1) := dk_96 (dk_at dksX4_keeps_6 14 rfl rfl)
theorem dX4_keeps_157 : decode cX4_keeps 157 = .ok (.iaload, 1) := dk_46 (dk_at dksX4_keeps_6 15 rfl rfl)
theorem dX4_keeps_158 : decode cX4_keeps 158 = .ok (.sipush 19200, 3) := dk_17 75 0 (dk_at dksX4_keeps_6 16 rfl rfl)
theorem dX4_keeps_161 : decode cX4_keeps 161 = .ok (.isub, 1) := dk_100 (dk_at dksX4_keeps_6 19 rfl rfl)
theorem dX4_keeps_162 : decode cX4_keeps 162 = .ok (.sipush 1200, 3) := dk_17 4 176 (dk_at dksX4_keeps_6 20 rfl rfl)
theorem dX4_keeps_165 : decode cX4_keeps 165 = .ok (.iload_n 3, 1) := dk_29 (dk_at dksX4_keeps_6 23 rfl rfl)
theorem dX4_keeps_166 : decode cX4_keeps 166 = .ok (.imul, 1) := dk_104 (dk_at dksX4_keeps_7 0 rfl rfl)
theorem dX4_keeps_167 : decode cX4_keeps 167 = .ok (.iadd, 1) := dk_96 (dk_at dksX4_keeps_7 1 rfl rfl)
theorem dX4_keeps_168 : decode cX4_keeps 168 = .ok (.iastore, 1) := dk_79 (dk_at dksX4_keeps_7 2 rfl rfl)
theorem dX4_keeps_169 : decode cX4_keeps 169 = .ok (.iinc 4 1, 3) := dk_132 4 1 (dk_at dksX4_keeps_7 3 rfl rfl)
theorem dX4_keeps_172 : decode cX4_keeps 172 = .ok (.goto (-127), 3) := dk_167 255 129 (dk_at dksX4_keeps_7 6 rfl rfl)
theorem dX4_keeps_175 : decode cX4_keeps 175 = .ok (.iconst 0, 1) := dk_3 (dk_at dksX4_keeps_7 9 rfl rfl)
theorem dX4_keeps_176 : decode cX4_keeps 176 = .ok (.istore 4, 2) := dk_54 4 (dk_at dksX4_keeps_7 10 rfl rfl)
theorem dX4_keeps_178 : decode cX4_keeps 178 = .ok (.iload 4, 2) := dk_21 4 (dk_at dksX4_keeps_7 12 rfl rfl)
theorem dX4_keeps_180 : decode cX4_keeps 180 = .ok (.aload_n 0, 1) := dk_42 (dk_at dksX4_keeps_7 14 rfl rfl)
theorem dX4_keeps_181 : decode cX4_keeps 181 = .ok (.getfield 276, 3) := dk_180 1 20 (dk_at dksX4_keeps_7 15 rfl rfl)
theorem dX4_keeps_184 : decode cX4_keeps 184 = .ok (.if_icmp .ge 57, 3) := dk_162 0 57 (dk_at dksX4_keeps_7 18 rfl rfl)
theorem dX4_keeps_187 : decode cX4_keeps 187 = .ok (.aload_n 0, 1) := dk_42 (dk_at dksX4_keeps_7 21 rfl rfl)
theorem dX4_keeps_188 : decode cX4_keeps 188 = .ok (.getfield 94, 3) := dk_180 0 94 (dk_at dksX4_keeps_8 0 rfl rfl)
theorem dX4_keeps_191 : decode cX4_keeps 191 = .ok (.sipush 1200, 3) := dk_17 4 176 (dk_at dksX4_keeps_8 3 rfl rfl)
theorem dX4_keeps_194 : decode cX4_keeps 194 = .ok (.iload_n 3, 1) := dk_29 (dk_at dksX4_keeps_8 6 rfl rfl)
theorem dX4_keeps_195 : decode cX4_keeps 195 = .ok (.imul, 1) := dk_104 (dk_at dksX4_keeps_8 7 rfl rfl)
theorem dX4_keeps_196 : decode cX4_keeps 196 = .ok (.iload 4, 2) := dk_21 4 (dk_at dksX4_keeps_8 8 rfl rfl)
theorem dX4_keeps_198 : decode cX4_keeps 198 = .ok (.iadd, 1) := dk_96 (dk_at dksX4_keeps_8 10 rfl rfl)
theorem dX4_keeps_199 : decode cX4_keeps 199 = .ok (.aload_n 0, 1) := dk_42 (dk_at dksX4_keeps_8 11 rfl rfl)
theorem dX4_keeps_200 : decode cX4_keeps 200 = .ok (.getfield 94, 3) := dk_180 0 94 (dk_at dksX4_keeps_8 12 rfl rfl)
theorem dX4_keeps_203 : decode cX4_keeps 203 = .ok (.sipush 19200, 3) := dk_17 75 0 (dk_at dksX4_keeps_8 15 rfl rfl)
theorem dX4_keeps_206 : decode cX4_keeps 206 = .ok (.iload 4, 2) := dk_21 4 (dk_at dksX4_keeps_8 18 rfl rfl)
theorem dX4_keeps_208 : decode cX4_keeps 208 = .ok (.iadd, 1) := dk_96 (dk_at dksX4_keeps_8 20 rfl rfl)
theorem dX4_keeps_209 : decode cX4_keeps 209 = .ok (.iaload, 1) := dk_46 (dk_at dksX4_keeps_8 21 rfl rfl)
theorem dX4_keeps_210 : decode cX4_keeps 210 = .ok (.iastore, 1) := dk_79 (dk_at dksX4_keeps_8 22 rfl rfl)
theorem dX4_keeps_211 : decode cX4_keeps 211 = .ok (.aload_n 0, 1) := dk_42 (dk_at dksX4_keeps_8 23 rfl rfl)
theorem dX4_keeps_212 : decode cX4_keeps 212 = .ok (.getfield 97, 3) := dk_180 0 97 (dk_at dksX4_keeps_9 0 rfl rfl)
theorem dX4_keeps_215 : decode cX4_keeps 215 = .ok (.sipush 1200, 3) := dk_17 4 176 (dk_at dksX4_keeps_9 3 rfl rfl)
theorem dX4_keeps_218 : decode cX4_keeps 218 = .ok (.iload_n 3, 1) := dk_29 (dk_at dksX4_keeps_9 6 rfl rfl)
theorem dX4_keeps_219 : decode cX4_keeps 219 = .ok (.imul, 1) := dk_104 (dk_at dksX4_keeps_9 7 rfl rfl)
theorem dX4_keeps_220 : decode cX4_keeps 220 = .ok (.iload 4, 2) := dk_21 4 (dk_at dksX4_keeps_9 8 rfl rfl)
theorem dX4_keeps_222 : decode cX4_keeps 222 = .ok (.iadd, 1) := dk_96 (dk_at dksX4_keeps_9 10 rfl rfl)
theorem dX4_keeps_223 : decode cX4_keeps 223 = .ok (.aload_n 0, 1) := dk_42 (dk_at dksX4_keeps_9 11 rfl rfl)
theorem dX4_keeps_224 : decode cX4_keeps 224 = .ok (.getfield 97, 3) := dk_180 0 97 (dk_at dksX4_keeps_9 12 rfl rfl)
theorem dX4_keeps_227 : decode cX4_keeps 227 = .ok (.sipush 19200, 3) := dk_17 75 0 (dk_at dksX4_keeps_9 15 rfl rfl)
theorem dX4_keeps_230 : decode cX4_keeps 230 = .ok (.iload 4, 2) := dk_21 4 (dk_at dksX4_keeps_9 18 rfl rfl)
theorem dX4_keeps_232 : decode cX4_keeps 232 = .ok (.iadd, 1) := dk_96 (dk_at dksX4_keeps_9 20 rfl rfl)
theorem dX4_keeps_233 : decode cX4_keeps 233 = .ok (.iaload, 1) := dk_46 (dk_at dksX4_keeps_9 21 rfl rfl)
theorem dX4_keeps_234 : decode cX4_keeps 234 = .ok (.iastore, 1) := dk_79 (dk_at dksX4_keeps_9 22 rfl rfl)
theorem dX4_keeps_235 : decode cX4_keeps 235 = .ok (.iinc 4 1, 3) := dk_132 4 1 (dk_at dksX4_keeps_10 0 rfl rfl)
theorem dX4_keeps_238 : decode cX4_keeps 238 = .ok (.goto (-60), 3) := dk_167 255 196 (dk_at dksX4_keeps_10 3 rfl rfl)
theorem dX4_keeps_241 : decode cX4_keeps 241 = .ok (.aload_n 0, 1) := dk_42 (dk_at dksX4_keeps_10 6 rfl rfl)
theorem dX4_keeps_242 : decode cX4_keeps 242 = .ok (.dup, 1) := dk_89 (dk_at dksX4_keeps_10 7 rfl rfl)
theorem dX4_keeps_243 : decode cX4_keeps 243 = .ok (.getfield 279, 3) := dk_180 1 23 (dk_at dksX4_keeps_10 8 rfl rfl)
theorem dX4_keeps_246 : decode cX4_keeps 246 = .ok (.iconst 1, 1) := dk_4 (dk_at dksX4_keeps_10 11 rfl rfl)
theorem dX4_keeps_247 : decode cX4_keeps 247 = .ok (.iadd, 1) := dk_96 (dk_at dksX4_keeps_10 12 rfl rfl)
theorem dX4_keeps_248 : decode cX4_keeps 248 = .ok (.putfield 279, 3) := dk_181 1 23 (dk_at dksX4_keeps_10 13 rfl rfl)
theorem dX4_keeps_251 : decode cX4_keeps 251 = .ok (.return_, 1) := dk_177 (dk_at dksX4_keeps_10 16 rfl rfl)
abbrev cX4_days : ByteArray := prog_21_method_37_code
def yX4_days : MethodName := ⟨RX4, "days", "(I)I"⟩
def dkwX4_days_1 : List UInt8 := [17, 39, 15, 164, 0, 5, 2, 172, 42, 89, 180, 1, 39, 27, 96, 181, 1, 39, 42, 180, 1, 39, 172]
abbrev dktX4_days_1 : List UInt8 := dkwX4_days_1 ++ []
def dkwX4_days_0 : List UInt8 := [42, 3, 181, 0, 1, 27, 3, 17, 3, 232, 184, 1, 102, 153, 0, 15, 42, 180, 1, 39, 27, 96]
abbrev dktX4_days_0 : List UInt8 := dkwX4_days_0 ++ dktX4_days_1
theorem dksX4_days_0 : cX4_days.data.toList.drop 0 = dktX4_days_0 := by decide +kernel
theorem dksX4_days_1 : cX4_days.data.toList.drop 22 = dktX4_days_1 := dk_seg dksX4_days_0 22 rfl rfl
theorem dX4_days_0 : decode cX4_days 0 = .ok (.aload_n 0, 1) := dk_42 (dk_at dksX4_days_0 0 rfl rfl)
theorem dX4_days_1 : decode cX4_days 1 = .ok (.iconst 0, 1) := dk_3 (dk_at dksX4_days_0 1 rfl rfl)
theorem dX4_days_2 : decode cX4_days 2 = .ok (.putfield 1, 3) := dk_181 0 1 (dk_at dksX4_days_0 2 rfl rfl)
theorem dX4_days_5 : decode cX4_days 5 = .ok (.iload_n 1, 1) := dk_27 (dk_at dksX4_days_0 5 rfl rfl)
theorem dX4_days_6 : decode cX4_days 6 = .ok (.iconst 0, 1) := dk_3 (dk_at dksX4_days_0 6 rfl rfl)
theorem dX4_days_7 : decode cX4_days 7 = .ok (.sipush 1000, 3) := dk_17 3 232 (dk_at dksX4_days_0 7 rfl rfl)
theorem dX4_days_10 : decode cX4_days 10 = .ok (.invokestatic 358, 3) := dk_184 1 102 (dk_at dksX4_days_0 10 rfl rfl)
theorem dX4_days_13 : decode cX4_days 13 = .ok (.ifCond .eq 15, 3) := dk_153 0 15 (dk_at dksX4_days_0 13 rfl rfl)
theorem dX4_days_16 : decode cX4_days 16 = .ok (.aload_n 0, 1) := dk_42 (dk_at dksX4_days_0 16 rfl rfl)
theorem dX4_days_17 : decode cX4_days 17 = .ok (.getfield 295, 3) := dk_180 1 39 (dk_at dksX4_days_0 17 rfl rfl)
theorem dX4_days_20 : decode cX4_days 20 = .ok (.iload_n 1, 1) := dk_27 (dk_at dksX4_days_0 20 rfl rfl)
theorem dX4_days_21 : decode cX4_days 21 = .ok (.iadd, 1) := dk_96 (dk_at dksX4_days_0 21 rfl rfl)
theorem dX4_days_22 : decode cX4_days 22 = .ok (.sipush 9999, 3) := dk_17 39 15 (dk_at dksX4_days_1 0 rfl rfl)
theorem dX4_days_25 : decode cX4_days 25 = .ok (.if_icmp .le 5, 3) := dk_164 0 5 (dk_at dksX4_days_1 3 rfl rfl)
theorem dX4_days_28 : decode cX4_days 28 = .ok (.iconst (-1), 1) := dk_2 (dk_at dksX4_days_1 6 rfl rfl)
theorem dX4_days_29 : decode cX4_days 29 = .ok (.ireturn, 1) := dk_172 (dk_at dksX4_days_1 7 rfl rfl)
theorem dX4_days_30 : decode cX4_days 30 = .ok (.aload_n 0, 1) := dk_42 (dk_at dksX4_days_1 8 rfl rfl)
theorem dX4_days_31 : decode cX4_days 31 = .ok (.dup, 1) := dk_89 (dk_at dksX4_days_1 9 rfl rfl)
theorem dX4_days_32 : decode cX4_days 32 = .ok (.getfield 295, 3) := dk_180 1 39 (dk_at dksX4_days_1 10 rfl rfl)
theorem dX4_days_35 : decode cX4_days 35 = .ok (.iload_n 1, 1) := dk_27 (dk_at dksX4_days_1 13 rfl rfl)
theorem dX4_days_36 : decode cX4_days 36 = .ok (.iadd, 1) := dk_96 (dk_at dksX4_days_1 14 rfl rfl)
theorem dX4_days_37 : decode cX4_days 37 = .ok (.putfield 295, 3) := dk_181 1 39 (dk_at dksX4_days_1 15 rfl rfl)
theorem dX4_days_40 : decode cX4_days 40 = .ok (.aload_n 0, 1) := dk_42 (dk_at dksX4_days_1 18 rfl rfl)
theorem dX4_days_41 : decode cX4_days 41 = .ok (.getfield 295, 3) := dk_180 1 39 (dk_at dksX4_days_1 19 rfl rfl)
theorem dX4_days_44 : decode cX4_days 44 = .ok (.ireturn, 1) := dk_172 (dk_at dksX4_days_1 22 rfl rfl)
abbrev cX4_within : ByteArray := prog_21_method_34_code
def yX4_within : MethodName := ⟨RX4, "within", "(III)Z"⟩
def dkwX4_within_0 : List UInt8 := [26, 27, 161, 0, 12, 26, 28, 163, 0, 7, 4, 167, 0, 4, 3, 172]
abbrev dktX4_within_0 : List UInt8 := dkwX4_within_0 ++ []
theorem dksX4_within_0 : cX4_within.data.toList.drop 0 = dktX4_within_0 := by decide +kernel
theorem dX4_within_0 : decode cX4_within 0 = .ok (.iload_n 0, 1) := dk_26 (dk_at dksX4_within_0 0 rfl rfl)
theorem dX4_within_1 : decode cX4_within 1 = .ok (.iload_n 1, 1) := dk_27 (dk_at dksX4_within_0 1 rfl rfl)
theorem dX4_within_2 : decode cX4_within 2 = .ok (.if_icmp .lt 12, 3) := dk_161 0 12 (dk_at dksX4_within_0 2 rfl rfl)
theorem dX4_within_5 : decode cX4_within 5 = .ok (.iload_n 0, 1) := dk_26 (dk_at dksX4_within_0 5 rfl rfl)
theorem dX4_within_6 : decode cX4_within 6 = .ok (.iload_n 2, 1) := dk_28 (dk_at dksX4_within_0 6 rfl rfl)
theorem dX4_within_7 : decode cX4_within 7 = .ok (.if_icmp .gt 7, 3) := dk_163 0 7 (dk_at dksX4_within_0 7 rfl rfl)
theorem dX4_within_10 : decode cX4_within 10 = .ok (.iconst 1, 1) := dk_4 (dk_at dksX4_within_0 10 rfl rfl)
theorem dX4_within_11 : decode cX4_within 11 = .ok (.goto 4, 3) := dk_167 0 4 (dk_at dksX4_within_0 11 rfl rfl)
theorem dX4_within_14 : decode cX4_within 14 = .ok (.iconst 0, 1) := dk_3 (dk_at dksX4_within_0 14 rfl rfl)
theorem dX4_within_15 : decode cX4_within 15 = .ok (.ireturn, 1) := dk_172 (dk_at dksX4_within_0 15 rfl rfl)
abbrev cX4_view : ByteArray := prog_21_method_38_code
def yX4_view : MethodName := ⟨RX4, "view", "(I)Z"⟩
def dkwX4_view_1 : List UInt8 := [180, 1, 39, 160, 0, 7, 2, 167, 0, 4, 27, 181, 0, 216, 4, 172]
abbrev dktX4_view_1 : List UInt8 := dkwX4_view_1 ++ []
def dkwX4_view_0 : List UInt8 := [42, 3, 181, 0, 1, 27, 3, 42, 180, 1, 39, 184, 1, 102, 154, 0, 5, 3, 172, 42, 27, 42]
abbrev dktX4_view_0 : List UInt8 := dkwX4_view_0 ++ dktX4_view_1
theorem dksX4_view_0 : cX4_view.data.toList.drop 0 = dktX4_view_0 := by decide +kernel
theorem dksX4_view_1 : cX4_view.data.toList.drop 22 = dktX4_view_1 := dk_seg dksX4_view_0 22 rfl rfl
theorem dX4_view_0 : decode cX4_view 0 = .ok (.aload_n 0, 1) := dk_42 (dk_at dksX4_view_0 0 rfl rfl)
theorem dX4_view_1 : decode cX4_view 1 = .ok (.iconst 0, 1) := dk_3 (dk_at dksX4_view_0 1 rfl rfl)
theorem dX4_view_2 : decode cX4_view 2 = .ok (.putfield 1, 3) := dk_181 0 1 (dk_at dksX4_view_0 2 rfl rfl)
theorem dX4_view_5 : decode cX4_view 5 = .ok (.iload_n 1, 1) := dk_27 (dk_at dksX4_view_0 5 rfl rfl)
theorem dX4_view_6 : decode cX4_view 6 = .ok (.iconst 0, 1) := dk_3 (dk_at dksX4_view_0 6 rfl rfl)
theorem dX4_view_7 : decode cX4_view 7 = .ok (.aload_n 0, 1) := dk_42 (dk_at dksX4_view_0 7 rfl rfl)
theorem dX4_view_8 : decode cX4_view 8 = .ok (.getfield 295, 3) := dk_180 1 39 (dk_at dksX4_view_0 8 rfl rfl)
theorem dX4_view_11 : decode cX4_view 11 = .ok (.invokestatic 358, 3) := dk_184 1 102 (dk_at dksX4_view_0 11 rfl rfl)
theorem dX4_view_14 : decode cX4_view 14 = .ok (.ifCond .ne 5, 3) := dk_154 0 5 (dk_at dksX4_view_0 14 rfl rfl)
theorem dX4_view_17 : decode cX4_view 17 = .ok (.iconst 0, 1) := dk_3 (dk_at dksX4_view_0 17 rfl rfl)
theorem dX4_view_18 : decode cX4_view 18 = .ok (.ireturn, 1) := dk_172 (dk_at dksX4_view_0 18 rfl rfl)
theorem dX4_view_19 : decode cX4_view 19 = .ok (.aload_n 0, 1) := dk_42 (dk_at dksX4_view_0 19 rfl rfl)
theorem dX4_view_20 : decode cX4_view 20 = .ok (.iload_n 1, 1) := dk_27 (dk_at dksX4_view_0 20 rfl rfl)
theorem dX4_view_21 : decode cX4_view 21 = .ok (.aload_n 0, 1) := dk_42 (dk_at dksX4_view_0 21 rfl rfl)
theorem dX4_view_22 : decode cX4_view 22 = .ok (.getfield 295, 3) := dk_180 1 39 (dk_at dksX4_view_1 0 rfl rfl)
theorem dX4_view_25 : decode cX4_view 25 = .ok (.if_icmp .ne 7, 3) := dk_160 0 7 (dk_at dksX4_view_1 3 rfl rfl)
theorem dX4_view_28 : decode cX4_view 28 = .ok (.iconst (-1), 1) := dk_2 (dk_at dksX4_view_1 6 rfl rfl)
theorem dX4_view_29 : decode cX4_view 29 = .ok (.goto 4, 3) := dk_167 0 4 (dk_at dksX4_view_1 7 rfl rfl)
theorem dX4_view_32 : decode cX4_view 32 = .ok (.iload_n 1, 1) := dk_27 (dk_at dksX4_view_1 10 rfl rfl)
theorem dX4_view_33 : decode cX4_view 33 = .ok (.putfield 216, 3) := dk_181 0 216 (dk_at dksX4_view_1 11 rfl rfl)
theorem dX4_view_36 : decode cX4_view 36 = .ok (.iconst 1, 1) := dk_4 (dk_at dksX4_view_1 14 rfl rfl)
theorem dX4_view_37 : decode cX4_view 37 = .ok (.ireturn, 1) := dk_172 (dk_at dksX4_view_1 15 rfl rfl)
abbrev cX4_shop : ByteArray := prog_21_method_40_code
def yX4_shop : MethodName := ⟨RX4, "shop", "(IIIIIZ)I"⟩
def dkwX4_shop_5 : List UInt8 := [84, 42, 89, 180, 1, 110, 4, 96, 181, 1, 110, 42, 180, 1, 110, 4, 100, 172]
abbrev dktX4_shop_5 : List UInt8 := dkwX4_shop_5 ++ []
def dkwX4_shop_4 : List UInt8 := [21, 4, 79, 42, 180, 0, 121, 42, 180, 1, 110, 21, 5, 79, 42, 180, 0, 124, 42, 180, 1, 110, 21, 6]
abbrev dktX4_shop_4 : List UInt8 := dkwX4_shop_4 ++ dktX4_shop_5
def dkwX4_shop_3 : List UInt8 := [42, 180, 1, 110, 28, 79, 42, 180, 0, 115, 42, 180, 1, 110, 29, 79, 42, 180, 0, 118, 42, 180, 1, 110]
abbrev dktX4_shop_3 : List UInt8 := dkwX4_shop_3 ++ dktX4_shop_4
def dkwX4_shop_2 : List UInt8 := [180, 1, 110, 16, 20, 160, 0, 5, 2, 172, 42, 180, 0, 109, 42, 180, 1, 110, 27, 79, 42, 180, 0, 112]
abbrev dktX4_shop_2 : List UInt8 := dkwX4_shop_2 ++ dktX4_shop_3
def dkwX4_shop_1 : List UInt8 := [3, 17, 5, 159, 184, 1, 102, 153, 0, 25, 21, 5, 21, 4, 17, 5, 159, 184, 1, 102, 153, 0, 12, 42]
abbrev dktX4_shop_1 : List UInt8 := dkwX4_shop_1 ++ dktX4_shop_2
def dkwX4_shop_0 : List UInt8 := [42, 3, 181, 0, 1, 27, 28, 184, 1, 106, 153, 0, 46, 29, 3, 6, 184, 1, 102, 153, 0, 37, 21, 4]
abbrev dktX4_shop_0 : List UInt8 := dkwX4_shop_0 ++ dktX4_shop_1
theorem dksX4_shop_0 : cX4_shop.data.toList.drop 0 = dktX4_shop_0 := by decide +kernel
theorem dksX4_shop_1 : cX4_shop.data.toList.drop 24 = dktX4_shop_1 := dk_seg dksX4_shop_0 24 rfl rfl
theorem dksX4_shop_2 : cX4_shop.data.toList.drop 48 = dktX4_shop_2 := dk_seg dksX4_shop_1 24 rfl rfl
theorem dksX4_shop_3 : cX4_shop.data.toList.drop 72 = dktX4_shop_3 := dk_seg dksX4_shop_2 24 rfl rfl
theorem dksX4_shop_4 : cX4_shop.data.toList.drop 96 = dktX4_shop_4 := dk_seg dksX4_shop_3 24 rfl rfl
theorem dksX4_shop_5 : cX4_shop.data.toList.drop 120 = dktX4_shop_5 := dk_seg dksX4_shop_4 24 rfl rfl
theorem dX4_shop_0 : decode cX4_shop 0 = .ok (.aload_n 0, 1) := dk_42 (dk_at dksX4_shop_0 0 rfl rfl)
theorem dX4_shop_1 : decode cX4_shop 1 = .ok (.iconst 0, 1) := dk_3 (dk_at dksX4_shop_0 1 rfl rfl)
theorem dX4_shop_2 : decode cX4_shop 2 = .ok (.putfield 1, 3) := dk_181 0 1 (dk_at dksX4_shop_0 2 rfl rfl)
theorem dX4_shop_5 : decode cX4_shop 5 = .ok (.iload_n 1, 1) := dk_27 (dk_at dksX4_shop_0 5 rfl rfl)
theorem dX4_shop_6 : decode cX4_shop 6 = .ok (.iload_n 2, 1) := dk_28 (dk_at dksX4_shop_0 6 rfl rfl)
theorem dX4_shop_7 : decode cX4_shop 7 = .ok (.invokestatic 362, 3) := dk_184 1 106 (dk_at dksX4_shop_0 7 rfl rfl)
theorem dX4_shop_10 : decode cX4_shop 10 = .ok (.ifCond .eq 46, 3) := dk_153 0 46 (dk_at dksX4_shop_0 10 rfl rfl)
theorem dX4_shop_13 : decode cX4_shop 13 = .ok (.iload_n 3, 1) := dk_29 (dk_at dksX4_shop_0 13 rfl rfl)
theorem dX4_shop_14 : decode cX4_shop 14 = .ok (.iconst 0, 1) := dk_3 (dk_at dksX4_shop_0 14 rfl rfl)
theorem dX4_shop_15 : decode cX4_shop 15 = .ok (.iconst 3, 1) := dk_6 (dk_at dksX4_shop_0 15 rfl rfl)
theorem dX4_shop_16 : decode cX4_shop 16 = .ok (.invokestatic 358, 3) := dk_184 1 102 (dk_at dksX4_shop_0 16 rfl rfl)
theorem dX4_shop_19 : decode cX4_shop 19 = .ok (.ifCond .eq 37, 3) := dk_153 0 37 (dk_at dksX4_shop_0 19 rfl rfl)
theorem dX4_shop_22 : decode cX4_shop 22 = .ok (.iload 4, 2) := dk_21 4 (dk_at dksX4_shop_0 22 rfl rfl)
theorem dX4_shop_24 : decode cX4_shop 24 = .ok (.iconst 0, 1) := dk_3 (dk_at dksX4_shop_1 0 rfl rfl)
theorem dX4_shop_25 : decode cX4_shop 25 = .ok (.sipush 1439, 3) := dk_17 5 159 (dk_at dksX4_shop_1 1 rfl rfl)
theorem dX4_shop_28 : decode cX4_shop 28 = .ok (.invokestatic 358, 3) := dk_184 1 102 (dk_at dksX4_shop_1 4 rfl rfl)
theorem dX4_shop_31 : decode cX4_shop 31 = .ok (.ifCond .eq 25, 3) := dk_153 0 25 (dk_at dksX4_shop_1 7 rfl rfl)
theorem dX4_shop_34 : decode cX4_shop 34 = .ok (.iload 5, 2) := dk_21 5 (dk_at dksX4_shop_1 10 rfl rfl)
theorem dX4_shop_36 : decode cX4_shop 36 = .ok (.iload 4, 2) := dk_21 4 (dk_at dksX4_shop_1 12 rfl rfl)
theorem dX4_shop_38 : decode cX4_shop 38 = .ok (.sipush 1439, 3) := dk_17 5 159 (dk_at dksX4_shop_1 14 rfl rfl)
theorem dX4_shop_41 : decode cX4_shop 41 = .ok (.invokestatic 358, 3) := dk_184 1 102 (dk_at dksX4_shop_1 17 rfl rfl)
theorem dX4_shop_44 : decode cX4_shop 44 = .ok (.ifCond .eq 12, 3) := dk_153 0 12 (dk_at dksX4_shop_1 20 rfl rfl)
theorem dX4_shop_47 : decode cX4_shop 47 = .ok (.aload_n 0, 1) := dk_42 (dk_at dksX4_shop_1 23 rfl rfl)
theorem dX4_shop_48 : decode cX4_shop 48 = .ok (.getfield 366, 3) := dk_180 1 110 (dk_at dksX4_shop_2 0 rfl rfl)
theorem dX4_shop_51 : decode cX4_shop 51 = .ok (.bipush 20, 2) := dk_16 20 (dk_at dksX4_shop_2 3 rfl rfl)
theorem dX4_shop_53 : decode cX4_shop 53 = .ok (.if_icmp .ne 5, 3) := dk_160 0 5 (dk_at dksX4_shop_2 5 rfl rfl)
theorem dX4_shop_56 : decode cX4_shop 56 = .ok (.iconst (-1), 1) := dk_2 (dk_at dksX4_shop_2 8 rfl rfl)
theorem dX4_shop_57 : decode cX4_shop 57 = .ok (.ireturn, 1) := dk_172 (dk_at dksX4_shop_2 9 rfl rfl)
theorem dX4_shop_58 : decode cX4_shop 58 = .ok (.aload_n 0, 1) := dk_42 (dk_at dksX4_shop_2 10 rfl rfl)
theorem dX4_shop_59 : decode cX4_shop 59 = .ok (.getfield 109, 3) := dk_180 0 109 (dk_at dksX4_shop_2 11 rfl rfl)
theorem dX4_shop_62 : decode cX4_shop 62 = .ok (.aload_n 0, 1) := dk_42 (dk_at dksX4_shop_2 14 rfl rfl)
theorem dX4_shop_63 : decode cX4_shop 63 = .ok (.getfield 366, 3) := dk_180 1 110 (dk_at dksX4_shop_2 15 rfl rfl)
theorem dX4_shop_66 : decode cX4_shop 66 = .ok (.iload_n 1, 1) := dk_27 (dk_at dksX4_shop_2 18 rfl rfl)
theorem dX4_shop_67 : decode cX4_shop 67 = .ok (.iastore, 1) := dk_79 (dk_at dksX4_shop_2 19 rfl rfl)
theorem dX4_shop_68 : decode cX4_shop 68 = .ok (.aload_n 0, 1) := dk_42 (dk_at dksX4_shop_2 20 rfl rfl)
theorem dX4_shop_69 : decode cX4_shop 69 = .ok (.getfield 112, 3) := dk_180 0 112 (dk_at dksX4_shop_2 21 rfl rfl)
theorem dX4_shop_72 : decode cX4_shop 72 = .ok (.aload_n 0, 1) := dk_42 (dk_at dksX4_shop_3 0 rfl rfl)
theorem dX4_shop_73 : decode cX4_shop 73 = .ok (.getfield 366, 3) := dk_180 1 110 (dk_at dksX4_shop_3 1 rfl rfl)
theorem dX4_shop_76 : decode cX4_shop 76 = .ok (.iload_n 2, 1) := dk_28 (dk_at dksX4_shop_3 4 rfl rfl)
theorem dX4_shop_77 : decode cX4_shop 77 = .ok (.iastore, 1) := dk_79 (dk_at dksX4_shop_3 5 rfl rfl)
theorem dX4_shop_78 : decode cX4_shop 78 = .ok (.aload_n 0, 1) := dk_42 (dk_at dksX4_shop_3 6 rfl rfl)
theorem dX4_shop_79 : decode cX4_shop 79 = .ok (.getfield 115, 3) := dk_180 0 115 (dk_at dksX4_shop_3 7 rfl rfl)
theorem dX4_shop_82 : decode cX4_shop 82 = .ok (.aload_n 0, 1) := dk_42 (dk_at dksX4_shop_3 10 rfl rfl)
theorem dX4_shop_83 : decode cX4_shop 83 = .ok (.getfield 366, 3) := dk_180 1 110 (dk_at dksX4_shop_3 11 rfl rfl)
theorem dX4_shop_86 : decode cX4_shop 86 = .ok (.iload_n 3, 1) := dk_29 (dk_at dksX4_shop_3 14 rfl rfl)
theorem dX4_shop_87 : decode cX4_shop 87 = .ok (.iastore, 1) := dk_79 (dk_at dksX4_shop_3 15 rfl rfl)
theorem dX4_shop_88 : decode cX4_shop 88 = .ok (.aload_n 0, 1) := dk_42 (dk_at dksX4_shop_3 16 rfl rfl)
theorem dX4_shop_89 : decode cX4_shop 89 = .ok (.getfield 118, 3) := dk_180 0 118 (dk_at dksX4_shop_3 17 rfl rfl)
theorem dX4_shop_92 : decode cX4_shop 92 = .ok (.aload_n 0, 1) := dk_42 (dk_at dksX4_shop_3 20 rfl rfl)
theorem dX4_shop_93 : decode cX4_shop 93 = .ok (.getfield 366, 3) := dk_180 1 110 (dk_at dksX4_shop_3 21 rfl rfl)
theorem dX4_shop_96 : decode cX4_shop 96 = .ok (.iload 4, 2) := dk_21 4 (dk_at dksX4_shop_4 0 rfl rfl)
theorem dX4_shop_98 : decode cX4_shop 98 = .ok (.iastore, 1) := dk_79 (dk_at dksX4_shop_4 2 rfl rfl)
theorem dX4_shop_99 : decode cX4_shop 99 = .ok (.aload_n 0, 1) := dk_42 (dk_at dksX4_shop_4 3 rfl rfl)
theorem dX4_shop_100 : decode cX4_shop 100 = .ok (.getfield 121, 3) := dk_180 0 121 (dk_at dksX4_shop_4 4 rfl rfl)
theorem dX4_shop_103 : decode cX4_shop 103 = .ok (.aload_n 0, 1) := dk_42 (dk_at dksX4_shop_4 7 rfl rfl)
theorem dX4_shop_104 : decode cX4_shop 104 = .ok (.getfield 366, 3) := dk_180 1 110 (dk_at dksX4_shop_4 8 rfl rfl)
theorem dX4_shop_107 : decode cX4_shop 107 = .ok (.iload 5, 2) := dk_21 5 (dk_at dksX4_shop_4 11 rfl rfl)
theorem dX4_shop_109 : decode cX4_shop 109 = .ok (.iastore, 1) := dk_79 (dk_at dksX4_shop_4 13 rfl rfl)
theorem dX4_shop_110 : decode cX4_shop 110 = .ok (.aload_n 0, 1) := dk_42 (dk_at dksX4_shop_4 14 rfl rfl)
theorem dX4_shop_111 : decode cX4_shop 111 = .ok (.getfield 124, 3) := dk_180 0 124 (dk_at dksX4_shop_4 15 rfl rfl)
theorem dX4_shop_114 : decode cX4_shop 114 = .ok (.aload_n 0, 1) := dk_42 (dk_at dksX4_shop_4 18 rfl rfl)
theorem dX4_shop_115 : decode cX4_shop 115 = .ok (.getfield 366, 3) := dk_180 1 110 (dk_at dksX4_shop_4 19 rfl rfl)
theorem dX4_shop_118 : decode cX4_shop 118 = .ok (.iload 6, 2) := dk_21 6 (dk_at dksX4_shop_4 22 rfl rfl)
theorem dX4_shop_120 : decode cX4_shop 120 = .ok (.bastore, 1) := dk_84 (dk_at dksX4_shop_5 0 rfl rfl)
theorem dX4_shop_121 : decode cX4_shop 121 = .ok (.aload_n 0, 1) := dk_42 (dk_at dksX4_shop_5 1 rfl rfl)
theorem dX4_shop_122 : decode cX4_shop 122 = .ok (.dup, 1) := dk_89 (dk_at dksX4_shop_5 2 rfl rfl)
theorem dX4_shop_123 : decode cX4_shop 123 = .ok (.getfield 366, 3) := dk_180 1 110 (dk_at dksX4_shop_5 3 rfl rfl)
theorem dX4_shop_126 : decode cX4_shop 126 = .ok (.iconst 1, 1) := dk_4 (dk_at dksX4_shop_5 6 rfl rfl)
theorem dX4_shop_127 : decode cX4_shop 127 = .ok (.iadd, 1) := dk_96 (dk_at dksX4_shop_5 7 rfl rfl)
theorem dX4_shop_128 : decode cX4_shop 128 = .ok (.putfield 366, 3) := dk_181 1 110 (dk_at dksX4_shop_5 8 rfl rfl)
theorem dX4_shop_131 : decode cX4_shop 131 = .ok (.aload_n 0, 1) := dk_42 (dk_at dksX4_shop_5 11 rfl rfl)
theorem dX4_shop_132 : decode cX4_shop 132 = .ok (.getfield 366, 3) := dk_180 1 110 (dk_at dksX4_shop_5 12 rfl rfl)
theorem dX4_shop_135 : decode cX4_shop 135 = .ok (.iconst 1, 1) := dk_4 (dk_at dksX4_shop_5 15 rfl rfl)
theorem dX4_shop_136 : decode cX4_shop 136 = .ok (.isub, 1) := dk_100 (dk_at dksX4_shop_5 16 rfl rfl)
theorem dX4_shop_137 : decode cX4_shop 137 = .ok (.ireturn, 1) := dk_172 (dk_at dksX4_shop_5 17 rfl rfl)
abbrev cX4_isPlace : ByteArray := prog_21_method_35_code
def yX4_isPlace : MethodName := ⟨RX4, "isPlace", "(II)Z"⟩
def dkwX4_isPlace_1 : List UInt8 := [3, 172]
abbrev dktX4_isPlace_1 : List UInt8 := dkwX4_isPlace_1 ++ []
def dkwX4_isPlace_0 : List UInt8 := [26, 3, 16, 99, 184, 1, 102, 153, 0, 17, 27, 3, 16, 99, 184, 1, 102, 153, 0, 7, 4, 167, 0, 4]
abbrev dktX4_isPlace_0 : List UInt8 := dkwX4_isPlace_0 ++ dktX4_isPlace_1
theorem dksX4_isPlace_0 : cX4_isPlace.data.toList.drop 0 = dktX4_isPlace_0 := by decide +kernel
theorem dksX4_isPlace_1 : cX4_isPlace.data.toList.drop 24 = dktX4_isPlace_1 := dk_seg dksX4_isPlace_0 24 rfl rfl
theorem dX4_isPlace_0 : decode cX4_isPlace 0 = .ok (.iload_n 0, 1) := dk_26 (dk_at dksX4_isPlace_0 0 rfl rfl)
theorem dX4_isPlace_1 : decode cX4_isPlace 1 = .ok (.iconst 0, 1) := dk_3 (dk_at dksX4_isPlace_0 1 rfl rfl)
theorem dX4_isPlace_2 : decode cX4_isPlace 2 = .ok (.bipush 99, 2) := dk_16 99 (dk_at dksX4_isPlace_0 2 rfl rfl)
theorem dX4_isPlace_4 : decode cX4_isPlace 4 = .ok (.invokestatic 358, 3) := dk_184 1 102 (dk_at dksX4_isPlace_0 4 rfl rfl)
theorem dX4_isPlace_7 : decode cX4_isPlace 7 = .ok (.ifCond .eq 17, 3) := dk_153 0 17 (dk_at dksX4_isPlace_0 7 rfl rfl)
theorem dX4_isPlace_10 : decode cX4_isPlace 10 = .ok (.iload_n 1, 1) := dk_27 (dk_at dksX4_isPlace_0 10 rfl rfl)
theorem dX4_isPlace_11 : decode cX4_isPlace 11 = .ok (.iconst 0, 1) := dk_3 (dk_at dksX4_isPlace_0 11 rfl rfl)
theorem dX4_isPlace_12 : decode cX4_isPlace 12 = .ok (.bipush 99, 2) := dk_16 99 (dk_at dksX4_isPlace_0 12 rfl rfl)
theorem dX4_isPlace_14 : decode cX4_isPlace 14 = .ok (.invokestatic 358, 3) := dk_184 1 102 (dk_at dksX4_isPlace_0 14 rfl rfl)
theorem dX4_isPlace_17 : decode cX4_isPlace 17 = .ok (.ifCond .eq 7, 3) := dk_153 0 7 (dk_at dksX4_isPlace_0 17 rfl rfl)
theorem dX4_isPlace_20 : decode cX4_isPlace 20 = .ok (.iconst 1, 1) := dk_4 (dk_at dksX4_isPlace_0 20 rfl rfl)
theorem dX4_isPlace_21 : decode cX4_isPlace 21 = .ok (.goto 4, 3) := dk_167 0 4 (dk_at dksX4_isPlace_0 21 rfl rfl)
theorem dX4_isPlace_24 : decode cX4_isPlace 24 = .ok (.iconst 0, 1) := dk_3 (dk_at dksX4_isPlace_1 0 rfl rfl)
theorem dX4_isPlace_25 : decode cX4_isPlace 25 = .ok (.ireturn, 1) := dk_172 (dk_at dksX4_isPlace_1 1 rfl rfl)
abbrev cX4_buyer : ByteArray := prog_21_method_41_code
def yX4_buyer : MethodName := ⟨RX4, "buyer", "(II)I"⟩
def dkwX4_buyer_2 : List UInt8 := [180, 1, 113, 4, 96, 181, 1, 113, 42, 180, 1, 113, 4, 100, 172]
abbrev dktX4_buyer_2 : List UInt8 := dkwX4_buyer_2 ++ []
def dkwX4_buyer_1 : List UInt8 := [42, 180, 0, 128, 42, 180, 1, 113, 27, 79, 42, 180, 0, 131, 42, 180, 1, 113, 28, 79, 42, 89]
abbrev dktX4_buyer_1 : List UInt8 := dkwX4_buyer_1 ++ dktX4_buyer_2
def dkwX4_buyer_0 : List UInt8 := [42, 3, 181, 0, 1, 27, 28, 184, 1, 106, 153, 0, 12, 42, 180, 1, 113, 16, 8, 160, 0, 5, 2, 172]
abbrev dktX4_buyer_0 : List UInt8 := dkwX4_buyer_0 ++ dktX4_buyer_1
theorem dksX4_buyer_0 : cX4_buyer.data.toList.drop 0 = dktX4_buyer_0 := by decide +kernel
theorem dksX4_buyer_1 : cX4_buyer.data.toList.drop 24 = dktX4_buyer_1 := dk_seg dksX4_buyer_0 24 rfl rfl
theorem dksX4_buyer_2 : cX4_buyer.data.toList.drop 46 = dktX4_buyer_2 := dk_seg dksX4_buyer_1 22 rfl rfl
theorem dX4_buyer_0 : decode cX4_buyer 0 = .ok (.aload_n 0, 1) := dk_42 (dk_at dksX4_buyer_0 0 rfl rfl)
theorem dX4_buyer_1 : decode cX4_buyer 1 = .ok (.iconst 0, 1) := dk_3 (dk_at dksX4_buyer_0 1 rfl rfl)
theorem dX4_buyer_2 : decode cX4_buyer 2 = .ok (.putfield 1, 3) := dk_181 0 1 (dk_at dksX4_buyer_0 2 rfl rfl)
theorem dX4_buyer_5 : decode cX4_buyer 5 = .ok (.iload_n 1, 1) := dk_27 (dk_at dksX4_buyer_0 5 rfl rfl)
theorem dX4_buyer_6 : decode cX4_buyer 6 = .ok (.iload_n 2, 1) := dk_28 (dk_at dksX4_buyer_0 6 rfl rfl)
theorem dX4_buyer_7 : decode cX4_buyer 7 = .ok (.invokestatic 362, 3) := dk_184 1 106 (dk_at dksX4_buyer_0 7 rfl rfl)
theorem dX4_buyer_10 : decode cX4_buyer 10 = .ok (.ifCond .eq 12, 3) := dk_153 0 12 (dk_at dksX4_buyer_0 10 rfl rfl)
theorem dX4_buyer_13 : decode cX4_buyer 13 = .ok (.aload_n 0, 1) := dk_42 (dk_at dksX4_buyer_0 13 rfl rfl)
theorem dX4_buyer_14 : decode cX4_buyer 14 = .ok (.getfield 369, 3) := dk_180 1 113 (dk_at dksX4_buyer_0 14 rfl rfl)
theorem dX4_buyer_17 : decode cX4_buyer 17 = .ok (.bipush 8, 2) := dk_16 8 (dk_at dksX4_buyer_0 17 rfl rfl)
theorem dX4_buyer_19 : decode cX4_buyer 19 = .ok (.if_icmp .ne 5, 3) := dk_160 0 5 (dk_at dksX4_buyer_0 19 rfl rfl)
theorem dX4_buyer_22 : decode cX4_buyer 22 = .ok (.iconst (-1), 1) := dk_2 (dk_at dksX4_buyer_0 22 rfl rfl)
theorem dX4_buyer_23 : decode cX4_buyer 23 = .ok (.ireturn, 1) := dk_172 (dk_at dksX4_buyer_0 23 rfl rfl)
theorem dX4_buyer_24 : decode cX4_buyer 24 = .ok (.aload_n 0, 1) := dk_42 (dk_at dksX4_buyer_1 0 rfl rfl)
theorem dX4_buyer_25 : decode cX4_buyer 25 = .ok (.getfield 128, 3) := dk_180 0 128 (dk_at dksX4_buyer_1 1 rfl rfl)
theorem dX4_buyer_28 : decode cX4_buyer 28 = .ok (.aload_n 0, 1) := dk_42 (dk_at dksX4_buyer_1 4 rfl rfl)
theorem dX4_buyer_29 : decode cX4_buyer 29 = .ok (.getfield 369, 3) := dk_180 1 113 (dk_at dksX4_buyer_1 5 rfl rfl)
theorem dX4_buyer_32 : decode cX4_buyer 32 = .ok (.iload_n 1, 1) := dk_27 (dk_at dksX4_buyer_1 8 rfl rfl)
theorem dX4_buyer_33 : decode cX4_buyer 33 = .ok (.iastore, 1) := dk_79 (dk_at dksX4_buyer_1 9 rfl rfl)
theorem dX4_buyer_34 : decode cX4_buyer 34 = .ok (.aload_n 0, 1) := dk_42 (dk_at dksX4_buyer_1 10 rfl rfl)
theorem dX4_buyer_35 : decode cX4_buyer 35 = .ok (.getfield 131, 3) := dk_180 0 131 (dk_at dksX4_buyer_1 11 rfl rfl)
theorem dX4_buyer_38 : decode cX4_buyer 38 = .ok (.aload_n 0, 1) := dk_42 (dk_at dksX4_buyer_1 14 rfl rfl)
theorem dX4_buyer_39 : decode cX4_buyer 39 = .ok (.getfield 369, 3) := dk_180 1 113 (dk_at dksX4_buyer_1 15 rfl rfl)
theorem dX4_buyer_42 : decode cX4_buyer 42 = .ok (.iload_n 2, 1) := dk_28 (dk_at dksX4_buyer_1 18 rfl rfl)
theorem dX4_buyer_43 : decode cX4_buyer 43 = .ok (.iastore, 1) := dk_79 (dk_at dksX4_buyer_1 19 rfl rfl)
theorem dX4_buyer_44 : decode cX4_buyer 44 = .ok (.aload_n 0, 1) := dk_42 (dk_at dksX4_buyer_1 20 rfl rfl)
theorem dX4_buyer_45 : decode cX4_buyer 45 = .ok (.dup, 1) := dk_89 (dk_at dksX4_buyer_1 21 rfl rfl)
theorem dX4_buyer_46 : decode cX4_buyer 46 = .ok (.getfield 369, 3) := dk_180 1 113 (dk_at dksX4_buyer_2 0 rfl rfl)
theorem dX4_buyer_49 : decode cX4_buyer 49 = .ok (.iconst 1, 1) := dk_4 (dk_at dksX4_buyer_2 3 rfl rfl)
theorem dX4_buyer_50 : decode cX4_buyer 50 = .ok (.iadd, 1) := dk_96 (dk_at dksX4_buyer_2 4 rfl rfl)
theorem dX4_buyer_51 : decode cX4_buyer 51 = .ok (.putfield 369, 3) := dk_181 1 113 (dk_at dksX4_buyer_2 5 rfl rfl)
theorem dX4_buyer_54 : decode cX4_buyer 54 = .ok (.aload_n 0, 1) := dk_42 (dk_at dksX4_buyer_2 8 rfl rfl)
theorem dX4_buyer_55 : decode cX4_buyer 55 = .ok (.getfield 369, 3) := dk_180 1 113 (dk_at dksX4_buyer_2 9 rfl rfl)
theorem dX4_buyer_58 : decode cX4_buyer 58 = .ok (.iconst 1, 1) := dk_4 (dk_at dksX4_buyer_2 12 rfl rfl)
theorem dX4_buyer_59 : decode cX4_buyer 59 = .ok (.isub, 1) := dk_100 (dk_at dksX4_buyer_2 13 rfl rfl)
theorem dX4_buyer_60 : decode cX4_buyer 60 = .ok (.ireturn, 1) := dk_172 (dk_at dksX4_buyer_2 14 rfl rfl)
abbrev cX4_terms : ByteArray := prog_21_method_42_code
def yX4_terms : MethodName := ⟨RX4, "terms", "(III)Z"⟩
def dkwX4_terms_2 : List UInt8 := [181, 0, 222, 42, 29, 181, 0, 225, 4, 172]
abbrev dktX4_terms_2 : List UInt8 := dkwX4_terms_2 ++ []
def dkwX4_terms_1 : List UInt8 := [153, 0, 14, 29, 3, 17, 3, 232, 184, 1, 102, 154, 0, 5, 3, 172, 42, 27, 181, 0, 219, 42, 28]
abbrev dktX4_terms_1 : List UInt8 := dkwX4_terms_1 ++ dktX4_terms_2
def dkwX4_terms_0 : List UInt8 := [42, 3, 181, 0, 1, 27, 4, 16, 60, 184, 1, 102, 153, 0, 25, 28, 3, 17, 3, 231, 184, 1, 102]
abbrev dktX4_terms_0 : List UInt8 := dkwX4_terms_0 ++ dktX4_terms_1
theorem dksX4_terms_0 : cX4_terms.data.toList.drop 0 = dktX4_terms_0 := by decide +kernel
theorem dksX4_terms_1 : cX4_terms.data.toList.drop 23 = dktX4_terms_1 := dk_seg dksX4_terms_0 23 rfl rfl
theorem dksX4_terms_2 : cX4_terms.data.toList.drop 46 = dktX4_terms_2 := dk_seg dksX4_terms_1 23 rfl rfl
theorem dX4_terms_0 : decode cX4_terms 0 = .ok (.aload_n 0, 1) := dk_42 (dk_at dksX4_terms_0 0 rfl rfl)
theorem dX4_terms_1 : decode cX4_terms 1 = .ok (.iconst 0, 1) := dk_3 (dk_at dksX4_terms_0 1 rfl rfl)
theorem dX4_terms_2 : decode cX4_terms 2 = .ok (.putfield 1, 3) := dk_181 0 1 (dk_at dksX4_terms_0 2 rfl rfl)
theorem dX4_terms_5 : decode cX4_terms 5 = .ok (.iload_n 1, 1) := dk_27 (dk_at dksX4_terms_0 5 rfl rfl)
theorem dX4_terms_6 : decode cX4_terms 6 = .ok (.iconst 1, 1) := dk_4 (dk_at dksX4_terms_0 6 rfl rfl)
theorem dX4_terms_7 : decode cX4_terms 7 = .ok (.bipush 60, 2) := dk_16 60 (dk_at dksX4_terms_0 7 rfl rfl)
theorem dX4_terms_9 : decode cX4_terms 9 = .ok (.invokestatic 358, 3) := dk_184 1 102 (dk_at dksX4_terms_0 9 rfl rfl)
theorem dX4_terms_12 : decode cX4_terms 12 = .ok (.ifCond .eq 25, 3) := dk_153 0 25 (dk_at dksX4_terms_0 12 rfl rfl)
theorem dX4_terms_15 : decode cX4_terms 15 = .ok (.iload_n 2, 1) := dk_28 (dk_at dksX4_terms_0 15 rfl rfl)
theorem dX4_terms_16 : decode cX4_terms 16 = .ok (.iconst 0, 1) := dk_3 (dk_at dksX4_terms_0 16 rfl rfl)
theorem dX4_terms_17 : decode cX4_terms 17 = .ok (.sipush 999, 3) := dk_17 3 231 (dk_at dksX4_terms_0 17 rfl rfl)
theorem dX4_terms_20 : decode cX4_terms 20 = .ok (.invokestatic 358, 3) := dk_184 1 102 (dk_at dksX4_terms_0 20 rfl rfl)
theorem dX4_terms_23 : decode cX4_terms 23 = .ok (.ifCond .eq 14, 3) := dk_153 0 14 (dk_at dksX4_terms_1 0 rfl rfl)
theorem dX4_terms_26 : decode cX4_terms 26 = .ok (.iload_n 3, 1) := dk_29 (dk_at dksX4_terms_1 3 rfl rfl)
theorem dX4_terms_27 : decode cX4_terms 27 = .ok (.iconst 0, 1) := dk_3 (dk_at dksX4_terms_1 4 rfl rfl)
theorem dX4_terms_28 : decode cX4_terms 28 = .ok (.sipush 1000, 3) := dk_17 3 232 (dk_at dksX4_terms_1 5 rfl rfl)
theorem dX4_terms_31 : decode cX4_terms 31 = .ok (.invokestatic 358, 3) := dk_184 1 102 (dk_at dksX4_terms_1 8 rfl rfl)
theorem dX4_terms_34 : decode cX4_terms 34 = .ok (.ifCond .ne 5, 3) := dk_154 0 5 (dk_at dksX4_terms_1 11 rfl rfl)
theorem dX4_terms_37 : decode cX4_terms 37 = .ok (.iconst 0, 1) := dk_3 (dk_at dksX4_terms_1 14 rfl rfl)
theorem dX4_terms_38 : decode cX4_terms 38 = .ok (.ireturn, 1) := dk_172 (dk_at dksX4_terms_1 15 rfl rfl)
theorem dX4_terms_39 : decode cX4_terms 39 = .ok (.aload_n 0, 1) := dk_42 (dk_at dksX4_terms_1 16 rfl rfl)
theorem dX4_terms_40 : decode cX4_terms 40 = .ok (.iload_n 1, 1) := dk_27 (dk_at dksX4_terms_1 17 rfl rfl)
theorem dX4_terms_41 : decode cX4_terms 41 = .ok (.putfield 219, 3) := dk_181 0 219 (dk_at dksX4_terms_1 18 rfl rfl)
theorem dX4_terms_44 : decode cX4_terms 44 = .ok (.aload_n 0, 1) := dk_42 (dk_at dksX4_terms_1 21 rfl rfl)
theorem dX4_terms_45 : decode cX4_terms 45 = .ok (.iload_n 2, 1) := dk_28 (dk_at dksX4_terms_1 22 rfl rfl)
theorem dX4_terms_46 : decode cX4_terms 46 = .ok (.putfield 222, 3) := dk_181 0 222 (dk_at dksX4_terms_2 0 rfl rfl)
theorem dX4_terms_49 : decode cX4_terms 49 = .ok (.aload_n 0, 1) := dk_42 (dk_at dksX4_terms_2 3 rfl rfl)
theorem dX4_terms_50 : decode cX4_terms 50 = .ok (.iload_n 3, 1) := dk_29 (dk_at dksX4_terms_2 4 rfl rfl)
theorem dX4_terms_51 : decode cX4_terms 51 = .ok (.putfield 225, 3) := dk_181 0 225 (dk_at dksX4_terms_2 5 rfl rfl)
theorem dX4_terms_54 : decode cX4_terms 54 = .ok (.iconst 1, 1) := dk_4 (dk_at dksX4_terms_2 8 rfl rfl)
theorem dX4_terms_55 : decode cX4_terms 55 = .ok (.ireturn, 1) := dk_172 (dk_at dksX4_terms_2 9 rfl rfl)
abbrev cX4_rest : ByteArray := prog_21_method_43_code
def yX4_rest : MethodName := ⟨RX4, "rest", "(II)Z"⟩
def dkwX4_rest_1 : List UInt8 := [154, 0, 5, 3, 172, 42, 27, 181, 0, 228, 42, 28, 181, 0, 231, 4, 172]
abbrev dktX4_rest_1 : List UInt8 := dkwX4_rest_1 ++ []
def dkwX4_rest_0 : List UInt8 := [42, 3, 181, 0, 1, 27, 3, 17, 1, 144, 184, 1, 102, 153, 0, 14, 28, 3, 17, 0, 198, 184, 1, 102]
abbrev dktX4_rest_0 : List UInt8 := dkwX4_rest_0 ++ dktX4_rest_1
theorem dksX4_rest_0 : cX4_rest.data.toList.drop 0 = dktX4_rest_0 := by decide +kernel
theorem dksX4_rest_1 : cX4_rest.data.toList.drop 24 = dktX4_rest_1 := dk_seg dksX4_rest_0 24 rfl rfl
theorem dX4_rest_0 : decode cX4_rest 0 = .ok (.aload_n 0, 1) := dk_42 (dk_at dksX4_rest_0 0 rfl rfl)
theorem dX4_rest_1 : decode cX4_rest 1 = .ok (.iconst 0, 1) := dk_3 (dk_at dksX4_rest_0 1 rfl rfl)
theorem dX4_rest_2 : decode cX4_rest 2 = .ok (.putfield 1, 3) := dk_181 0 1 (dk_at dksX4_rest_0 2 rfl rfl)
theorem dX4_rest_5 : decode cX4_rest 5 = .ok (.iload_n 1, 1) := dk_27 (dk_at dksX4_rest_0 5 rfl rfl)
theorem dX4_rest_6 : decode cX4_rest 6 = .ok (.iconst 0, 1) := dk_3 (dk_at dksX4_rest_0 6 rfl rfl)
theorem dX4_rest_7 : decode cX4_rest 7 = .ok (.sipush 400, 3) := dk_17 1 144 (dk_at dksX4_rest_0 7 rfl rfl)
theorem dX4_rest_10 : decode cX4_rest 10 = .ok (.invokestatic 358, 3) := dk_184 1 102 (dk_at dksX4_rest_0 10 rfl rfl)
theorem dX4_rest_13 : decode cX4_rest 13 = .ok (.ifCond .eq 14, 3) := dk_153 0 14 (dk_at dksX4_rest_0 13 rfl rfl)
theorem dX4_rest_16 : decode cX4_rest 16 = .ok (.iload_n 2, 1) := dk_28 (dk_at dksX4_rest_0 16 rfl rfl)
theorem dX4_rest_17 : decode cX4_rest 17 = .ok (.iconst 0, 1) := dk_3 (dk_at dksX4_rest_0 17 rfl rfl)
theorem dX4_rest_18 : decode cX4_rest 18 = .ok (.sipush 198, 3) := dk_17 0 198 (dk_at dksX4_rest_0 18 rfl rfl)
theorem dX4_rest_21 : decode cX4_rest 21 = .ok (.invokestatic 358, 3) := dk_184 1 102 (dk_at dksX4_rest_0 21 rfl rfl)
theorem dX4_rest_24 : decode cX4_rest 24 = .ok (.ifCond .ne 5, 3) := dk_154 0 5 (dk_at dksX4_rest_1 0 rfl rfl)
theorem dX4_rest_27 : decode cX4_rest 27 = .ok (.iconst 0, 1) := dk_3 (dk_at dksX4_rest_1 3 rfl rfl)
theorem dX4_rest_28 : decode cX4_rest 28 = .ok (.ireturn, 1) := dk_172 (dk_at dksX4_rest_1 4 rfl rfl)
theorem dX4_rest_29 : decode cX4_rest 29 = .ok (.aload_n 0, 1) := dk_42 (dk_at dksX4_rest_1 5 rfl rfl)
theorem dX4_rest_30 : decode cX4_rest 30 = .ok (.iload_n 1, 1) := dk_27 (dk_at dksX4_rest_1 6 rfl rfl)
theorem dX4_rest_31 : decode cX4_rest 31 = .ok (.putfield 228, 3) := dk_181 0 228 (dk_at dksX4_rest_1 7 rfl rfl)
theorem dX4_rest_34 : decode cX4_rest 34 = .ok (.aload_n 0, 1) := dk_42 (dk_at dksX4_rest_1 10 rfl rfl)
theorem dX4_rest_35 : decode cX4_rest 35 = .ok (.iload_n 2, 1) := dk_28 (dk_at dksX4_rest_1 11 rfl rfl)
theorem dX4_rest_36 : decode cX4_rest 36 = .ok (.putfield 231, 3) := dk_181 0 231 (dk_at dksX4_rest_1 12 rfl rfl)
theorem dX4_rest_39 : decode cX4_rest 39 = .ok (.iconst 1, 1) := dk_4 (dk_at dksX4_rest_1 15 rfl rfl)
theorem dX4_rest_40 : decode cX4_rest 40 = .ok (.ireturn, 1) := dk_172 (dk_at dksX4_rest_1 16 rfl rfl)
abbrev cX4_visit : ByteArray := prog_21_method_47_code
def yX4_visit : MethodName := ⟨RX4, "visit", "(IIIIIII)I"⟩
def dkwX4_visit_9 : List UInt8 := [42, 180, 1, 116, 4, 100, 172]
abbrev dktX4_visit_9 : List UInt8 := dkwX4_visit_9 ++ []
def dkwX4_visit_8 : List UInt8 := [79, 42, 180, 0, 155, 42, 180, 1, 116, 42, 180, 1, 39, 79, 42, 89, 180, 1, 116, 4, 96, 181, 1, 116]
abbrev dktX4_visit_8 : List UInt8 := dkwX4_visit_8 ++ dktX4_visit_9
def dkwX4_visit_7 : List UInt8 := [21, 5, 79, 42, 180, 0, 149, 42, 180, 1, 116, 21, 6, 79, 42, 180, 0, 152, 42, 180, 1, 116, 21, 7]
abbrev dktX4_visit_7 : List UInt8 := dkwX4_visit_7 ++ dktX4_visit_8
def dkwX4_visit_6 : List UInt8 := [180, 1, 116, 29, 79, 42, 180, 0, 143, 42, 180, 1, 116, 21, 4, 79, 42, 180, 0, 146, 42, 180, 1, 116]
abbrev dktX4_visit_6 : List UInt8 := dkwX4_visit_6 ++ dktX4_visit_7
def dkwX4_visit_5 : List UInt8 := [180, 0, 134, 42, 180, 1, 116, 27, 79, 42, 180, 0, 137, 42, 180, 1, 116, 28, 79, 42, 180, 0, 140, 42]
abbrev dktX4_visit_5 : List UInt8 := dkwX4_visit_5 ++ dktX4_visit_6
def dkwX4_visit_4 : List UInt8 := [180, 1, 116, 16, 120, 159, 0, 14, 42, 28, 29, 182, 1, 125, 16, 12, 160, 0, 5, 2, 172, 42]
abbrev dktX4_visit_4 : List UInt8 := dkwX4_visit_4 ++ dktX4_visit_5
def dkwX4_visit_3 : List UInt8 := [17, 5, 159, 184, 1, 102, 153, 0, 7, 4, 167, 0, 4, 3, 54, 8, 21, 8, 153, 0, 23, 42]
abbrev dktX4_visit_3 : List UInt8 := dkwX4_visit_3 ++ dktX4_visit_4
def dkwX4_visit_2 : List UInt8 := [17, 1, 44, 184, 1, 102, 153, 0, 31, 21, 6, 3, 17, 15, 255, 184, 1, 102, 153, 0, 19, 21, 7, 2]
abbrev dktX4_visit_2 : List UInt8 := dkwX4_visit_2 ++ dktX4_visit_3
def dkwX4_visit_1 : List UInt8 := [180, 1, 39, 184, 1, 102, 153, 0, 55, 21, 4, 3, 17, 5, 159, 184, 1, 102, 153, 0, 43, 21, 5, 4]
abbrev dktX4_visit_1 : List UInt8 := dkwX4_visit_1 ++ dktX4_visit_2
def dkwX4_visit_0 : List UInt8 := [42, 3, 181, 0, 1, 42, 27, 182, 1, 119, 153, 0, 75, 42, 28, 182, 1, 122, 153, 0, 67, 29, 3, 42]
abbrev dktX4_visit_0 : List UInt8 := dkwX4_visit_0 ++ dktX4_visit_1
theorem dksX4_visit_0 : cX4_visit.data.toList.drop 0 = dktX4_visit_0 := by decide +kernel
theorem dksX4_visit_1 : cX4_visit.data.toList.drop 24 = dktX4_visit_1 := dk_seg dksX4_visit_0 24 rfl rfl
theorem dksX4_visit_2 : cX4_visit.data.toList.drop 48 = dktX4_visit_2 := dk_seg dksX4_visit_1 24 rfl rfl
theorem dksX4_visit_3 : cX4_visit.data.toList.drop 72 = dktX4_visit_3 := dk_seg dksX4_visit_2 24 rfl rfl
theorem dksX4_visit_4 : cX4_visit.data.toList.drop 94 = dktX4_visit_4 := dk_seg dksX4_visit_3 22 rfl rfl
theorem dksX4_visit_5 : cX4_visit.data.toList.drop 116 = dktX4_visit_5 := dk_seg dksX4_visit_4 22 rfl rfl
theorem dksX4_visit_6 : cX4_visit.data.toList.drop 140 = dktX4_visit_6 := dk_seg dksX4_visit_5 24 rfl rfl
theorem dksX4_visit_7 : cX4_visit.data.toList.drop 164 = dktX4_visit_7 := dk_seg dksX4_visit_6 24 rfl rfl
theorem dksX4_visit_8 : cX4_visit.data.toList.drop 188 = dktX4_visit_8 := dk_seg dksX4_visit_7 24 rfl rfl
theorem dksX4_visit_9 : cX4_visit.data.toList.drop 212 = dktX4_visit_9 := dk_seg dksX4_visit_8 24 rfl rfl
theorem dX4_visit_0 : decode cX4_visit 0 = .ok (.aload_n 0, 1) := dk_42 (dk_at dksX4_visit_0 0 rfl rfl)
theorem dX4_visit_1 : decode cX4_visit 1 = .ok (.iconst 0, 1) := dk_3 (dk_at dksX4_visit_0 1 rfl rfl)
theorem dX4_visit_2 : decode cX4_visit 2 = .ok (.putfield 1, 3) := dk_181 0 1 (dk_at dksX4_visit_0 2 rfl rfl)
theorem dX4_visit_5 : decode cX4_visit 5 = .ok (.aload_n 0, 1) := dk_42 (dk_at dksX4_visit_0 5 rfl rfl)
theorem dX4_visit_6 : decode cX4_visit 6 = .ok (.iload_n 1, 1) := dk_27 (dk_at dksX4_visit_0 6 rfl rfl)
theorem dX4_visit_7 : decode cX4_visit 7 = .ok (.invokevirtual 375, 3) := dk_182 1 119 (dk_at dksX4_visit_0 7 rfl rfl)
theorem dX4_visit_10 : decode cX4_visit 10 = .ok (.ifCond .eq 75, 3) := dk_153 0 75 (dk_at dksX4_visit_0 10 rfl rfl)
theorem dX4_visit_13 : decode cX4_visit 13 = .ok (.aload_n 0, 1) := dk_42 (dk_at dksX4_visit_0 13 rfl rfl)
theorem dX4_visit_14 : decode cX4_visit 14 = .ok (.iload_n 2, 1) := dk_28 (dk_at dksX4_visit_0 14 rfl rfl)
theorem dX4_visit_15 : decode cX4_visit 15 = .ok (.invokevirtual 378, 3) := dk_182 1 122 (dk_at dksX4_visit_0 15 rfl rfl)
theorem dX4_visit_18 : decode cX4_visit 18 = .ok (.ifCond .eq 67, 3) := dk_153 0 67 (dk_at dksX4_visit_0 18 rfl rfl)
theorem dX4_visit_21 : decode cX4_visit 21 = .ok (.iload_n 3, 1) := dk_29 (dk_at dksX4_visit_0 21 rfl rfl)
theorem dX4_visit_22 : decode cX4_visit 22 = .ok (.iconst 0, 1) := dk_3 (dk_at dksX4_visit_0 22 rfl rfl)
theorem dX4_visit_23 : decode cX4_visit 23 = .ok (.aload_n 0, 1) := dk_42 (dk_at dksX4_visit_0 23 rfl rfl)
theorem dX4_visit_24 : decode cX4_visit 24 = .ok (.getfield 295, 3) := dk_180 1 39 (dk_at dksX4_visit_1 0 rfl rfl)
theorem dX4_visit_27 : decode cX4_visit 27 = .ok (.invokestatic 358, 3) := dk_184 1 102 (dk_at dksX4_visit_1 3 rfl rfl)
theorem dX4_visit_30 : decode cX4_visit 30 = .ok (.ifCond .eq 55, 3) := dk_153 0 55 (dk_at dksX4_visit_1 6 rfl rfl)
theorem dX4_visit_33 : decode cX4_visit 33 = .ok (.iload 4, 2) := dk_21 4 (dk_at dksX4_visit_1 9 rfl rfl)
theorem dX4_visit_35 : decode cX4_visit 35 = .ok (.iconst 0, 1) := dk_3 (dk_at dksX4_visit_1 11 rfl rfl)
theorem dX4_visit_36 : decode cX4_visit 36 = .ok (.sipush 1439, 3) := dk_17 5 159 (dk_at dksX4_visit_1 12 rfl rfl)
theorem dX4_visit_39 : decode cX4_visit 39 = .ok (.invokestatic 358, 3) := dk_184 1 102 (dk_at dksX4_visit_1 15 rfl rfl)
theorem dX4_visit_42 : decode cX4_visit 42 = .ok (.ifCond .eq 43, 3) := dk_153 0 43 (dk_at dksX4_visit_1 18 rfl rfl)
theorem dX4_visit_45 : decode cX4_visit 45 = .ok (.iload 5, 2) := dk_21 5 (dk_at dksX4_visit_1 21 rfl rfl)
theorem dX4_visit_47 : decode cX4_visit 47 = .ok (.iconst 1, 1) := dk_4 (dk_at dksX4_visit_1 23 rfl rfl)
theorem dX4_visit_48 : decode cX4_visit 48 = .ok (.sipush 300, 3) := dk_17 1 44 (dk_at dksX4_visit_2 0 rfl rfl)
theorem dX4_visit_51 : decode cX4_visit 51 = .ok (.invokestatic 358, 3) := dk_184 1 102 (dk_at dksX4_visit_2 3 rfl rfl)
theorem dX4_visit_54 : decode cX4_visit 54 = .ok (.ifCond .eq 31, 3) := dk_153 0 31 (dk_at dksX4_visit_2 6 rfl rfl)
theorem dX4_visit_57 : decode cX4_visit 57 = .ok (.iload 6, 2) := dk_21 6 (dk_at dksX4_visit_2 9 rfl rfl)
theorem dX4_visit_59 : decode cX4_visit 59 = .ok (.iconst 0, 1) := dk_3 (dk_at dksX4_visit_2 11 rfl rfl)
theorem dX4_visit_60 : decode cX4_visit 60 = .ok (.sipush 4095, 3) := dk_17 15 255 (dk_at dksX4_visit_2 12 rfl rfl)
theorem dX4_visit_63 : decode cX4_visit 63 = .ok (.invokestatic 358, 3) := dk_184 1 102 (dk_at dksX4_visit_2 15 rfl rfl)
theorem dX4_visit_66 : decode cX4_visit 66 = .ok (.ifCond .eq 19, 3) := dk_153 0 19 (dk_at dksX4_visit_2 18 rfl rfl)
theorem dX4_visit_69 : decode cX4_visit 69 = .ok (.iload 7, 2) := dk_21 7 (dk_at dksX4_visit_2 21 rfl rfl)
theorem dX4_visit_71 : decode cX4_visit 71 = .ok (.iconst (-1), 1) := dk_2 (dk_at dksX4_visit_2 23 rfl rfl)
theorem dX4_visit_72 : decode cX4_visit 72 = .ok (.sipush 1439, 3) := dk_17 5 159 (dk_at dksX4_visit_3 0 rfl rfl)
theorem dX4_visit_75 : decode cX4_visit 75 = .ok (.invokestatic 358, 3) := dk_184 1 102 (dk_at dksX4_visit_3 3 rfl rfl)
theorem dX4_visit_78 : decode cX4_visit 78 = .ok (.ifCond .eq 7, 3) := dk_153 0 7 (dk_at dksX4_visit_3 6 rfl rfl)
theorem dX4_visit_81 : decode cX4_visit 81 = .ok (.iconst 1, 1) := dk_4 (dk_at dksX4_visit_3 9 rfl rfl)
theorem dX4_visit_82 : decode cX4_visit 82 = .ok (.goto 4, 3) := dk_167 0 4 (dk_at dksX4_visit_3 10 rfl rfl)
theorem dX4_visit_85 : decode cX4_visit 85 = .ok (.iconst 0, 1) := dk_3 (dk_at dksX4_visit_3 13 rfl rfl)
theorem dX4_visit_86 : decode cX4_visit 86 = .ok (.istore 8, 2) := dk_54 8 (dk_at dksX4_visit_3 14 rfl rfl)
theorem dX4_visit_88 : decode cX4_visit 88 = .ok (.iload 8, 2) := dk_21 8 (dk_at dksX4_visit_3 16 rfl rfl)
theorem dX4_visit_90 : decode cX4_visit 90 = .ok (.ifCond .eq 23, 3) := dk_153 0 23 (dk_at dksX4_visit_3 18 rfl rfl)
theorem dX4_visit_93 : decode cX4_visit 93 = .ok (.aload_n 0, 1) := dk_42 (dk_at dksX4_visit_3 21 rfl rfl)
theorem dX4_visit_94 : decode cX4_visit 94 = .ok (.getfield 372, 3) := dk_180 1 116 (dk_at dksX4_visit_4 0 rfl rfl)
theorem dX4_visit_97 : decode cX4_visit 97 = .ok (.bipush 120, 2) := dk_16 120 (dk_at dksX4_visit_4 3 rfl rfl)
theorem dX4_visit_99 : decode cX4_visit 99 = .ok (.if_icmp .eq 14, 3) := dk_159 0 14 (dk_at dksX4_visit_4 5 rfl rfl)
theorem dX4_visit_102 : decode cX4_visit 102 = .ok (.aload_n 0, 1) := dk_42 (dk_at dksX4_visit_4 8 rfl rfl)
theorem dX4_visit_103 : decode cX4_visit 103 = .ok (.iload_n 2, 1) := dk_28 (dk_at dksX4_visit_4 9 rfl rfl)
theorem dX4_visit_104 : decode cX4_visit 104 = .ok (.iload_n 3, 1) := dk_29 (dk_at dksX4_visit_4 10 rfl rfl)
theorem dX4_visit_105 : decode cX4_visit 105 = .ok (.invokevirtual 381, 3) := dk_182 1 125 (dk_at dksX4_visit_4 11 rfl rfl)
theorem dX4_visit_108 : decode cX4_visit 108 = .ok (.bipush 12, 2) := dk_16 12 (dk_at dksX4_visit_4 14 rfl rfl)
theorem dX4_visit_110 : decode cX4_visit 110 = .ok (.if_icmp .ne 5, 3) := dk_160 0 5 (dk_at dksX4_visit_4 16 rfl rfl)
theorem dX4_visit_113 : decode cX4_visit 113 = .ok (.iconst (-1), 1) := dk_2 (dk_at dksX4_visit_4 19 rfl rfl)
theorem dX4_visit_114 : decode cX4_visit 114 = .ok (.ireturn, 1) := dk_172 (dk_at dksX4_visit_4 20 rfl rfl)
theorem dX4_visit_115 : decode cX4_visit 115 = .ok (.aload_n 0, 1) := dk_42 (dk_at dksX4_visit_4 21 rfl rfl)
theorem dX4_visit_116 : decode cX4_visit 116 = .ok (.getfield 134, 3) := dk_180 0 134 (dk_at dksX4_visit_5 0 rfl rfl)
theorem dX4_visit_119 : decode cX4_visit 119 = .ok (.aload_n 0, 1) := dk_42 (dk_at dksX4_visit_5 3 rfl rfl)
theorem dX4_visit_120 : decode cX4_visit 120 = .ok (.getfield 372, 3) := dk_180 1 116 (dk_at dksX4_visit_5 4 rfl rfl)
theorem dX4_visit_123 : decode cX4_visit 123 = .ok (.iload_n 1, 1) := dk_27 (dk_at dksX4_visit_5 7 rfl rfl)
theorem dX4_visit_124 : decode cX4_visit 124 = .ok (.iastore, 1) := dk_79 (dk_at dksX4_visit_5 8 rfl rfl)
theorem dX4_visit_125 : decode cX4_visit 125 = .ok (.aload_n 0, 1) := dk_42 (dk_at dksX4_visit_5 9 rfl rfl)
theorem dX4_visit_126 : decode cX4_visit 126 = .ok (.getfield 137, 3) := dk_180 0 137 (dk_at dksX4_visit_5 10 rfl rfl)
theorem dX4_visit_129 : decode cX4_visit 129 = .ok (.aload_n 0, 1) := dk_42 (dk_at dksX4_visit_5 13 rfl rfl)
theorem dX4_visit_130 : decode cX4_visit 130 = .ok (.getfield 372, 3) := dk_180 1 116 (dk_at dksX4_visit_5 14 rfl rfl)
theorem dX4_visit_133 : decode cX4_visit 133 = .ok (.iload_n 2, 1) := dk_28 (dk_at dksX4_visit_5 17 rfl rfl)
theorem dX4_visit_134 : decode cX4_visit 134 = .ok (.iastore, 1) := dk_79 (dk_at dksX4_visit_5 18 rfl rfl)
theorem dX4_visit_135 : decode cX4_visit 135 = .ok (.aload_n 0, 1) := dk_42 (dk_at dksX4_visit_5 19 rfl rfl)
theorem dX4_visit_136 : decode cX4_visit 136 = .ok (.getfield 140, 3) := dk_180 0 140 (dk_at dksX4_visit_5 20 rfl rfl)
theorem dX4_visit_139 : decode cX4_visit 139 = .ok (.aload_n 0, 1) := dk_42 (dk_at dksX4_visit_5 23 rfl rfl)
theorem dX4_visit_140 : decode cX4_visit 140 = .ok (.getfield 372, 3) := dk_180 1 116 (dk_at dksX4_visit_6 0 rfl rfl)
theorem dX4_visit_143 : decode cX4_visit 143 = .ok (.iload_n 3, 1) := dk_29 (dk_at dksX4_visit_6 3 rfl rfl)
theorem dX4_visit_144 : decode cX4_visit 144 = .ok (.iastore, 1) := dk_79 (dk_at dksX4_visit_6 4 rfl rfl)
theorem dX4_visit_145 : decode cX4_visit 145 = .ok (.aload_n 0, 1) := dk_42 (dk_at dksX4_visit_6 5 rfl rfl)
theorem dX4_visit_146 : decode cX4_visit 146 = .ok (.getfield 143, 3) := dk_180 0 143 (dk_at dksX4_visit_6 6 rfl rfl)
theorem dX4_visit_149 : decode cX4_visit 149 = .ok (.aload_n 0, 1) := dk_42 (dk_at dksX4_visit_6 9 rfl rfl)
theorem dX4_visit_150 : decode cX4_visit 150 = .ok (.getfield 372, 3) := dk_180 1 116 (dk_at dksX4_visit_6 10 rfl rfl)
theorem dX4_visit_153 : decode cX4_visit 153 = .ok (.iload 4, 2) := dk_21 4 (dk_at dksX4_visit_6 13 rfl rfl)
theorem dX4_visit_155 : decode cX4_visit 155 = .ok (.iastore, 1) := dk_79 (dk_at dksX4_visit_6 15 rfl rfl)
theorem dX4_visit_156 : decode cX4_visit 156 = .ok (.aload_n 0, 1) := dk_42 (dk_at dksX4_visit_6 16 rfl rfl)
theorem dX4_visit_157 : decode cX4_visit 157 = .ok (.getfield 146, 3) := dk_180 0 146 (dk_at dksX4_visit_6 17 rfl rfl)
theorem dX4_visit_160 : decode cX4_visit 160 = .ok (.aload_n 0, 1) := dk_42 (dk_at dksX4_visit_6 20 rfl rfl)
theorem dX4_visit_161 : decode cX4_visit 161 = .ok (.getfield 372, 3) := dk_180 1 116 (dk_at dksX4_visit_6 21 rfl rfl)
theorem dX4_visit_164 : decode cX4_visit 164 = .ok (.iload 5, 2) := dk_21 5 (dk_at dksX4_visit_7 0 rfl rfl)
theorem dX4_visit_166 : decode cX4_visit 166 = .ok (.iastore, 1) := dk_79 (dk_at dksX4_visit_7 2 rfl rfl)
theorem dX4_visit_167 : decode cX4_visit 167 = .ok (.aload_n 0, 1) := dk_42 (dk_at dksX4_visit_7 3 rfl rfl)
theorem dX4_visit_168 : decode cX4_visit 168 = .ok (.getfield 149, 3) := dk_180 0 149 (dk_at dksX4_visit_7 4 rfl rfl)
theorem dX4_visit_171 : decode cX4_visit 171 = .ok (.aload_n 0, 1) := dk_42 (dk_at dksX4_visit_7 7 rfl rfl)
theorem dX4_visit_172 : decode cX4_visit 172 = .ok (.getfield 372, 3) := dk_180 1 116 (dk_at dksX4_visit_7 8 rfl rfl)
theorem dX4_visit_175 : decode cX4_visit 175 = .ok (.iload 6, 2) := dk_21 6 (dk_at dksX4_visit_7 11 rfl rfl)
theorem dX4_visit_177 : decode cX4_visit 177 = .ok (.iastore, 1) := dk_79 (dk_at dksX4_visit_7 13 rfl rfl)
theorem dX4_visit_178 : decode cX4_visit 178 = .ok (.aload_n 0, 1) := dk_42 (dk_at dksX4_visit_7 14 rfl rfl)
theorem dX4_visit_179 : decode cX4_visit 179 = .ok (.getfield 152, 3) := dk_180 0 152 (dk_at dksX4_visit_7 15 rfl rfl)
theorem dX4_visit_182 : decode cX4_visit 182 = .ok (.aload_n 0, 1) := dk_42 (dk_at dksX4_visit_7 18 rfl rfl)
theorem dX4_visit_183 : decode cX4_visit 183 = .ok (.getfield 372, 3) := dk_180 1 116 (dk_at dksX4_visit_7 19 rfl rfl)
theorem dX4_visit_186 : decode cX4_visit 186 = .ok (.iload 7, 2) := dk_21 7 (dk_at dksX4_visit_7 22 rfl rfl)
theorem dX4_visit_188 : decode cX4_visit 188 = .ok (.iastore, 1) := dk_79 (dk_at dksX4_visit_8 0 rfl rfl)
theorem dX4_visit_189 : decode cX4_visit 189 = .ok (.aload_n 0, 1) := dk_42 (dk_at dksX4_visit_8 1 rfl rfl)
theorem dX4_visit_190 : decode cX4_visit 190 = .ok (.getfield 155, 3) := dk_180 0 155 (dk_at dksX4_visit_8 2 rfl rfl)
theorem dX4_visit_193 : decode cX4_visit 193 = .ok (.aload_n 0, 1) := dk_42 (dk_at dksX4_visit_8 5 rfl rfl)
theorem dX4_visit_194 : decode cX4_visit 194 = .ok (.getfield 372, 3) := dk_180 1 116 (dk_at dksX4_visit_8 6 rfl rfl)
theorem dX4_visit_197 : decode cX4_visit 197 = .ok (.aload_n 0, 1) := dk_42 (dk_at dksX4_visit_8 9 rfl rfl)
theorem dX4_visit_198 : decode cX4_visit 198 = .ok (.getfield 295, 3) := dk_180 1 39 (dk_at dksX4_visit_8 10 rfl rfl)
theorem dX4_visit_201 : decode cX4_visit 201 = .ok (.iastore, 1) := dk_79 (dk_at dksX4_visit_8 13 rfl rfl)
theorem dX4_visit_202 : decode cX4_visit 202 = .ok (.aload_n 0, 1) := dk_42 (dk_at dksX4_visit_8 14 rfl rfl)
theorem dX4_visit_203 : decode cX4_visit 203 = .ok (.dup, 1) := dk_89 (dk_at dksX4_visit_8 15 rfl rfl)
theorem dX4_visit_204 : decode cX4_visit 204 = .ok (.getfield 372, 3) := dk_180 1 116 (dk_at dksX4_visit_8 16 rfl rfl)
theorem dX4_visit_207 : decode cX4_visit 207 = .ok (.iconst 1, 1) := dk_4 (dk_at dksX4_visit_8 19 rfl rfl)
theorem dX4_visit_208 : decode cX4_visit 208 = .ok (.iadd, 1) := dk_96 (dk_at dksX4_visit_8 20 rfl rfl)
theorem dX4_visit_209 : decode cX4_visit 209 = .ok (.putfield 372, 3) := dk_181 1 116 (dk_at dksX4_visit_8 21 rfl rfl)
theorem dX4_visit_212 : decode cX4_visit 212 = .ok (.aload_n 0, 1) := dk_42 (dk_at dksX4_visit_9 0 rfl rfl)
theorem dX4_visit_213 : decode cX4_visit 213 = .ok (.getfield 372, 3) := dk_180 1 116 (dk_at dksX4_visit_9 1 rfl rfl)
theorem dX4_visit_216 : decode cX4_visit 216 = .ok (.iconst 1, 1) := dk_4 (dk_at dksX4_visit_9 4 rfl rfl)
theorem dX4_visit_217 : decode cX4_visit 217 = .ok (.isub, 1) := dk_100 (dk_at dksX4_visit_9 5 rfl rfl)
theorem dX4_visit_218 : decode cX4_visit 218 = .ok (.ireturn, 1) := dk_172 (dk_at dksX4_visit_9 6 rfl rfl)
abbrev cX4_isShop : ByteArray := prog_21_method_44_code
def yX4_isShop : MethodName := ⟨RX4, "isShop", "(I)Z"⟩
def dkwX4_isShop_0 : List UInt8 := [27, 155, 0, 15, 27, 42, 180, 1, 110, 162, 0, 7, 4, 167, 0, 4, 3, 172]
abbrev dktX4_isShop_0 : List UInt8 := dkwX4_isShop_0 ++ []
theorem dksX4_isShop_0 : cX4_isShop.data.toList.drop 0 = dktX4_isShop_0 := by decide +kernel
theorem dX4_isShop_0 : decode cX4_isShop 0 = .ok (.iload_n 1, 1) := dk_27 (dk_at dksX4_isShop_0 0 rfl rfl)
theorem dX4_isShop_1 : decode cX4_isShop 1 = .ok (.ifCond .lt 15, 3) := dk_155 0 15 (dk_at dksX4_isShop_0 1 rfl rfl)
theorem dX4_isShop_4 : decode cX4_isShop 4 = .ok (.iload_n 1, 1) := dk_27 (dk_at dksX4_isShop_0 4 rfl rfl)
theorem dX4_isShop_5 : decode cX4_isShop 5 = .ok (.aload_n 0, 1) := dk_42 (dk_at dksX4_isShop_0 5 rfl rfl)
theorem dX4_isShop_6 : decode cX4_isShop 6 = .ok (.getfield 366, 3) := dk_180 1 110 (dk_at dksX4_isShop_0 6 rfl rfl)
theorem dX4_isShop_9 : decode cX4_isShop 9 = .ok (.if_icmp .ge 7, 3) := dk_162 0 7 (dk_at dksX4_isShop_0 9 rfl rfl)
theorem dX4_isShop_12 : decode cX4_isShop 12 = .ok (.iconst 1, 1) := dk_4 (dk_at dksX4_isShop_0 12 rfl rfl)
theorem dX4_isShop_13 : decode cX4_isShop 13 = .ok (.goto 4, 3) := dk_167 0 4 (dk_at dksX4_isShop_0 13 rfl rfl)
theorem dX4_isShop_16 : decode cX4_isShop 16 = .ok (.iconst 0, 1) := dk_3 (dk_at dksX4_isShop_0 16 rfl rfl)
theorem dX4_isShop_17 : decode cX4_isShop 17 = .ok (.ireturn, 1) := dk_172 (dk_at dksX4_isShop_0 17 rfl rfl)
abbrev cX4_isBuyer : ByteArray := prog_21_method_45_code
def yX4_isBuyer : MethodName := ⟨RX4, "isBuyer", "(I)Z"⟩
def dkwX4_isBuyer_0 : List UInt8 := [27, 155, 0, 15, 27, 42, 180, 1, 113, 162, 0, 7, 4, 167, 0, 4, 3, 172]
abbrev dktX4_isBuyer_0 : List UInt8 := dkwX4_isBuyer_0 ++ []
theorem dksX4_isBuyer_0 : cX4_isBuyer.data.toList.drop 0 = dktX4_isBuyer_0 := by decide +kernel
theorem dX4_isBuyer_0 : decode cX4_isBuyer 0 = .ok (.iload_n 1, 1) := dk_27 (dk_at dksX4_isBuyer_0 0 rfl rfl)
theorem dX4_isBuyer_1 : decode cX4_isBuyer 1 = .ok (.ifCond .lt 15, 3) := dk_155 0 15 (dk_at dksX4_isBuyer_0 1 rfl rfl)
theorem dX4_isBuyer_4 : decode cX4_isBuyer 4 = .ok (.iload_n 1, 1) := dk_27 (dk_at dksX4_isBuyer_0 4 rfl rfl)
theorem dX4_isBuyer_5 : decode cX4_isBuyer 5 = .ok (.aload_n 0, 1) := dk_42 (dk_at dksX4_isBuyer_0 5 rfl rfl)
theorem dX4_isBuyer_6 : decode cX4_isBuyer 6 = .ok (.getfield 369, 3) := dk_180 1 113 (dk_at dksX4_isBuyer_0 6 rfl rfl)
theorem dX4_isBuyer_9 : decode cX4_isBuyer 9 = .ok (.if_icmp .ge 7, 3) := dk_162 0 7 (dk_at dksX4_isBuyer_0 9 rfl rfl)
theorem dX4_isBuyer_12 : decode cX4_isBuyer 12 = .ok (.iconst 1, 1) := dk_4 (dk_at dksX4_isBuyer_0 12 rfl rfl)
theorem dX4_isBuyer_13 : decode cX4_isBuyer 13 = .ok (.goto 4, 3) := dk_167 0 4 (dk_at dksX4_isBuyer_0 13 rfl rfl)
theorem dX4_isBuyer_16 : decode cX4_isBuyer 16 = .ok (.iconst 0, 1) := dk_3 (dk_at dksX4_isBuyer_0 16 rfl rfl)
theorem dX4_isBuyer_17 : decode cX4_isBuyer 17 = .ok (.ireturn, 1) := dk_172 (dk_at dksX4_isBuyer_0 17 rfl rfl)
abbrev cX4_visitsOf : ByteArray := prog_21_method_46_code
def yX4_visitsOf : MethodName := ⟨RX4, "visitsOf", "(II)I"⟩
def dkwX4_visitsOf_2 : List UInt8 := [167, 255, 214, 29, 172]
abbrev dktX4_visitsOf_2 : List UInt8 := dkwX4_visitsOf_2 ++ []
def dkwX4_visitsOf_1 : List UInt8 := [160, 0, 18, 42, 180, 0, 140, 21, 4, 46, 28, 160, 0, 7, 4, 167, 0, 4, 3, 96, 62, 132, 4, 1]
abbrev dktX4_visitsOf_1 : List UInt8 := dkwX4_visitsOf_1 ++ dktX4_visitsOf_2
def dkwX4_visitsOf_0 : List UInt8 := [3, 62, 3, 54, 4, 21, 4, 42, 180, 1, 116, 162, 0, 39, 29, 42, 180, 0, 137, 21, 4, 46, 27]
abbrev dktX4_visitsOf_0 : List UInt8 := dkwX4_visitsOf_0 ++ dktX4_visitsOf_1
theorem dksX4_visitsOf_0 : cX4_visitsOf.data.toList.drop 0 = dktX4_visitsOf_0 := by decide +kernel
theorem dksX4_visitsOf_1 : cX4_visitsOf.data.toList.drop 23 = dktX4_visitsOf_1 := dk_seg dksX4_visitsOf_0 23 rfl rfl
theorem dksX4_visitsOf_2 : cX4_visitsOf.data.toList.drop 47 = dktX4_visitsOf_2 := dk_seg dksX4_visitsOf_1 24 rfl rfl
theorem dX4_visitsOf_0 : decode cX4_visitsOf 0 = .ok (.iconst 0, 1) := dk_3 (dk_at dksX4_visitsOf_0 0 rfl rfl)
theorem dX4_visitsOf_1 : decode cX4_visitsOf 1 = .ok (.istore_n 3, 1) := dk_62 (dk_at dksX4_visitsOf_0 1 rfl rfl)
theorem dX4_visitsOf_2 : decode cX4_visitsOf 2 = .ok (.iconst 0, 1) := dk_3 (dk_at dksX4_visitsOf_0 2 rfl rfl)
theorem dX4_visitsOf_3 : decode cX4_visitsOf 3 = .ok (.istore 4, 2) := dk_54 4 (dk_at dksX4_visitsOf_0 3 rfl rfl)
theorem dX4_visitsOf_5 : decode cX4_visitsOf 5 = .ok (.iload 4, 2) := dk_21 4 (dk_at dksX4_visitsOf_0 5 rfl rfl)
theorem dX4_visitsOf_7 : decode cX4_visitsOf 7 = .ok (.aload_n 0, 1) := dk_42 (dk_at dksX4_visitsOf_0 7 rfl rfl)
theorem dX4_visitsOf_8 : decode cX4_visitsOf 8 = .ok (.getfield 372, 3) := dk_180 1 116 (dk_at dksX4_visitsOf_0 8 rfl rfl)
theorem dX4_visitsOf_11 : decode cX4_visitsOf 11 = .ok (.if_icmp .ge 39, 3) := dk_162 0 39 (dk_at dksX4_visitsOf_0 11 rfl rfl)
theorem dX4_visitsOf_14 : decode cX4_visitsOf 14 = .ok (.iload_n 3, 1) := dk_29 (dk_at dksX4_visitsOf_0 14 rfl rfl)
theorem dX4_visitsOf_15 : decode cX4_visitsOf 15 = .ok (.aload_n 0, 1) := dk_42 (dk_at dksX4_visitsOf_0 15 rfl rfl)
theorem dX4_visitsOf_16 : decode cX4_visitsOf 16 = .ok (.getfield 137, 3) := dk_180 0 137 (dk_at dksX4_visitsOf_0 16 rfl rfl)
theorem dX4_visitsOf_19 : decode cX4_visitsOf 19 = .ok (.iload 4, 2) := dk_21 4 (dk_at dksX4_visitsOf_0 19 rfl rfl)
theorem dX4_visitsOf_21 : decode cX4_visitsOf 21 = .ok (.iaload, 1) := dk_46 (dk_at dksX4_visitsOf_0 21 rfl rfl)
theorem dX4_visitsOf_22 : decode cX4_visitsOf 22 = .ok (.iload_n 1, 1) := dk_27 (dk_at dksX4_visitsOf_0 22 rfl rfl)
theorem dX4_visitsOf_23 : decode cX4_visitsOf 23 = .ok (.if_icmp .ne 18, 3) := dk_160 0 18 (dk_at dksX4_visitsOf_1 0 rfl rfl)
theorem dX4_visitsOf_26 : decode cX4_visitsOf 26 = .ok (.aload_n 0, 1) := dk_42 (dk_at dksX4_visitsOf_1 3 rfl rfl)
theorem dX4_visitsOf_27 : decode cX4_visitsOf 27 = .ok (.getfield 140, 3) := dk_180 0 140 (dk_at dksX4_visitsOf_1 4 rfl rfl)
theorem dX4_visitsOf_30 : decode cX4_visitsOf 30 = .ok (.iload 4, 2) := dk_21 4 (dk_at dksX4_visitsOf_1 7 rfl rfl)
theorem dX4_visitsOf_32 : decode cX4_visitsOf 32 = .ok (.iaload, 1) := dk_46 (dk_at dksX4_visitsOf_1 9 rfl rfl)
theorem dX4_visitsOf_33 : decode cX4_visitsOf 33 = .ok (.iload_n 2, 1) := dk_28 (dk_at dksX4_visitsOf_1 10 rfl rfl)
theorem dX4_visitsOf_34 : decode cX4_visitsOf 34 = .ok (.if_icmp .ne 7, 3) := dk_160 0 7 (dk_at dksX4_visitsOf_1 11 rfl rfl)
theorem dX4_visitsOf_37 : decode cX4_visitsOf 37 = .ok (.iconst 1, 1) := dk_4 (dk_at dksX4_visitsOf_1 14 rfl rfl)
theorem dX4_visitsOf_38 : decode cX4_visitsOf 38 = .ok (.goto 4, 3) := dk_167 0 4 (dk_at dksX4_visitsOf_1 15 rfl rfl)
theorem dX4_visitsOf_41 : decode cX4_visitsOf 41 = .ok (.iconst 0, 1) := dk_3 (dk_at dksX4_visitsOf_1 18 rfl rfl)
theorem dX4_visitsOf_42 : decode cX4_visitsOf 42 = .ok (.iadd, 1) := dk_96 (dk_at dksX4_visitsOf_1 19 rfl rfl)
theorem dX4_visitsOf_43 : decode cX4_visitsOf 43 = .ok (.istore_n 3, 1) := dk_62 (dk_at dksX4_visitsOf_1 20 rfl rfl)
theorem dX4_visitsOf_44 : decode cX4_visitsOf 44 = .ok (.iinc 4 1, 3) := dk_132 4 1 (dk_at dksX4_visitsOf_1 21 rfl rfl)
theorem dX4_visitsOf_47 : decode cX4_visitsOf 47 = .ok (.goto (-42), 3) := dk_167 255 214 (dk_at dksX4_visitsOf_2 0 rfl rfl)
theorem dX4_visitsOf_50 : decode cX4_visitsOf 50 = .ok (.iload_n 3, 1) := dk_29 (dk_at dksX4_visitsOf_2 3 rfl rfl)
theorem dX4_visitsOf_51 : decode cX4_visitsOf 51 = .ok (.ireturn, 1) := dk_172 (dk_at dksX4_visitsOf_2 4 rfl rfl)
abbrev cX4_appeal : ByteArray := prog_21_method_48_code
def yX4_appeal : MethodName := ⟨RX4, "appeal", "(II)Z"⟩
def dkwX4_appeal_4 : List UInt8 := [180, 1, 129, 42, 180, 1, 39, 79, 42, 89, 180, 1, 129, 4, 96, 181, 1, 129, 4, 172]
abbrev dktX4_appeal_4 : List UInt8 := dkwX4_appeal_4 ++ []
def dkwX4_appeal_3 : List UInt8 := [180, 0, 158, 42, 180, 1, 129, 27, 79, 42, 180, 0, 161, 42, 180, 1, 129, 28, 79, 42, 180, 0, 164, 42]
abbrev dktX4_appeal_3 : List UInt8 := dkwX4_appeal_3 ++ dktX4_appeal_4
def dkwX4_appeal_2 : List UInt8 := [180, 0, 155, 27, 46, 16, 14, 96, 163, 0, 12, 42, 180, 1, 129, 16, 60, 160, 0, 5, 3, 172, 42]
abbrev dktX4_appeal_2 : List UInt8 := dkwX4_appeal_2 ++ dktX4_appeal_3
def dkwX4_appeal_1 : List UInt8 := [153, 0, 42, 42, 180, 0, 124, 42, 180, 0, 134, 27, 46, 51, 153, 0, 28, 42, 180, 1, 39, 42]
abbrev dktX4_appeal_1 : List UInt8 := dkwX4_appeal_1 ++ dktX4_appeal_2
def dkwX4_appeal_0 : List UInt8 := [42, 3, 181, 0, 1, 27, 155, 0, 60, 27, 42, 180, 1, 116, 162, 0, 52, 28, 3, 16, 11, 184, 1, 102]
abbrev dktX4_appeal_0 : List UInt8 := dkwX4_appeal_0 ++ dktX4_appeal_1
theorem dksX4_appeal_0 : cX4_appeal.data.toList.drop 0 = dktX4_appeal_0 := by decide +kernel
theorem dksX4_appeal_1 : cX4_appeal.data.toList.drop 24 = dktX4_appeal_1 := dk_seg dksX4_appeal_0 24 rfl rfl
theorem dksX4_appeal_2 : cX4_appeal.data.toList.drop 46 = dktX4_appeal_2 := dk_seg dksX4_appeal_1 22 rfl rfl
theorem dksX4_appeal_3 : cX4_appeal.data.toList.drop 69 = dktX4_appeal_3 := dk_seg dksX4_appeal_2 23 rfl rfl
theorem dksX4_appeal_4 : cX4_appeal.data.toList.drop 93 = dktX4_appeal_4 := dk_seg dksX4_appeal_3 24 rfl rfl
theorem dX4_appeal_0 : decode cX4_appeal 0 = .ok (.aload_n 0, 1) := dk_42 (dk_at dksX4_appeal_0 0 rfl rfl)
theorem dX4_appeal_1 : decode cX4_appeal 1 = .ok (.iconst 0, 1) := dk_3 (dk_at dksX4_appeal_0 1 rfl rfl)
theorem dX4_appeal_2 : decode cX4_appeal 2 = .ok (.putfield 1, 3) := dk_181 0 1 (dk_at dksX4_appeal_0 2 rfl rfl)
theorem dX4_appeal_5 : decode cX4_appeal 5 = .ok (.iload_n 1, 1) := dk_27 (dk_at dksX4_appeal_0 5 rfl rfl)
theorem dX4_appeal_6 : decode cX4_appeal 6 = .ok (.ifCond .lt 60, 3) := dk_155 0 60 (dk_at dksX4_appeal_0 6 rfl rfl)
theorem dX4_appeal_9 : decode cX4_appeal 9 = .ok (.iload_n 1, 1) := dk_27 (dk_at dksX4_appeal_0 9 rfl rfl)
theorem dX4_appeal_10 : decode cX4_appeal 10 = .ok (.aload_n 0, 1) := dk_42 (dk_at dksX4_appeal_0 10 rfl rfl)
theorem dX4_appeal_11 : decode cX4_appeal 11 = .ok (.getfield 372, 3) := dk_180 1 116 (dk_at dksX4_appeal_0 11 rfl rfl)
theorem dX4_appeal_14 : decode cX4_appeal 14 = .ok (.if_icmp .ge 52, 3) := dk_162 0 52 (dk_at dksX4_appeal_0 14 rfl rfl)
theorem dX4_appeal_17 : decode cX4_appeal 17 = .ok (.iload_n 2, 1) := dk_28 (dk_at dksX4_appeal_0 17 rfl rfl)
theorem dX4_appeal_18 : decode cX4_appeal 18 = .ok (.iconst 0, 1) := dk_3 (dk_at dksX4_appeal_0 18 rfl rfl)
theorem dX4_appeal_19 : decode cX4_appeal 19 = .ok (.bipush 11, 2) := dk_16 11 (dk_at dksX4_appeal_0 19 rfl rfl)
theorem dX4_appeal_21 : decode cX4_appeal 21 = .ok (.invokestatic 358, 3) := dk_184 1 102 (dk_at dksX4_appeal_0 21 rfl rfl)
theorem dX4_appeal_24 : decode cX4_appeal 24 = .ok (.ifCond .eq 42, 3) := dk_153 0 42 (dk_at dksX4_appeal_1 0 rfl rfl)
theorem dX4_appeal_27 : decode cX4_appeal 27 = .ok (.aload_n 0, 1) := dk_42 (dk_at dksX4_appeal_1 3 rfl rfl)
theorem dX4_appeal_28 : decode cX4_appeal 28 = .ok (.getfield 124, 3) := dk_180 0 124 (dk_at dksX4_appeal_1 4 rfl rfl)
theorem dX4_appeal_31 : decode cX4_appeal 31 = .ok (.aload_n 0, 1) := dk_42 (dk_at dksX4_appeal_1 7 rfl rfl)
theorem dX4_appeal_32 : decode cX4_appeal 32 = .ok (.getfield 134, 3) := dk_180 0 134 (dk_at dksX4_appeal_1 8 rfl rfl)
theorem dX4_appeal_35 : decode cX4_appeal 35 = .ok (.iload_n 1, 1) := dk_27 (dk_at dksX4_appeal_1 11 rfl rfl)
theorem dX4_appeal_36 : decode cX4_appeal 36 = .ok (.iaload, 1) := dk_46 (dk_at dksX4_appeal_1 12 rfl rfl)
theorem dX4_appeal_37 : decode cX4_appeal 37 = .ok (.baload, 1) := dk_51 (dk_at dksX4_appeal_1 13 rfl rfl)
theorem dX4_appeal_38 : decode cX4_appeal 38 = .ok (.ifCond .eq 28, 3) := dk_153 0 28 (dk_at dksX4_appeal_1 14 rfl rfl)
theorem dX4_appeal_41 : decode cX4_appeal 41 = .ok (.aload_n 0, 1) := dk_42 (dk_at dksX4_appeal_1 17 rfl rfl)
theorem dX4_appeal_42 : decode cX4_appeal 42 = .ok (.getfield 295, 3) := dk_180 1 39 (dk_at dksX4_appeal_1 18 rfl rfl)
theorem dX4_appeal_45 : decode cX4_appeal 45 = .ok (.aload_n 0, 1) := dk_42 (dk_at dksX4_appeal_1 21 rfl rfl)
theorem dX4_appeal_46 : decode cX4_appeal 46 = .ok (.getfield 155, 3) := dk_180 0 155 (dk_at dksX4_appeal_2 0 rfl rfl)
theorem dX4_appeal_49 : decode cX4_appeal 49 = .ok (.iload_n 1, 1) := dk_27 (dk_at dksX4_appeal_2 3 rfl rfl)
theorem dX4_appeal_50 : decode cX4_appeal 50 = .ok (.iaload, 1) := dk_46 (dk_at dksX4_appeal_2 4 rfl rfl)
theorem dX4_appeal_51 : decode cX4_appeal 51 = .ok (.bipush 14, 2) := dk_16 14 (dk_at dksX4_appeal_2 5 rfl rfl)
theorem dX4_appeal_53 : decode cX4_appeal 53 = .ok (.iadd, 1) := dk_96 (dk_at dksX4_appeal_2 7 rfl rfl)
theorem dX4_appeal_54 : decode cX4_appeal 54 = .ok (.if_icmp .gt 12, 3) := dk_163 0 12 (dk_at dksX4_appeal_2 8 rfl rfl)
theorem dX4_appeal_57 : decode cX4_appeal 57 = .ok (.aload_n 0, 1) := dk_42 (dk_at dksX4_appeal_2 11 rfl rfl)
theorem dX4_appeal_58 : decode cX4_appeal 58 = .ok (.getfield 385, 3) := dk_180 1 129 (dk_at dksX4_appeal_2 12 rfl rfl)
theorem dX4_appeal_61 : decode cX4_appeal 61 = .ok (.bipush 60, 2) := dk_16 60 (dk_at dksX4_appeal_2 15 rfl rfl)
theorem dX4_appeal_63 : decode cX4_appeal 63 = .ok (.if_icmp .ne 5, 3) := dk_160 0 5 (dk_at dksX4_appeal_2 17 rfl rfl)
theorem dX4_appeal_66 : decode cX4_appeal 66 = .ok (.iconst 0, 1) := dk_3 (dk_at dksX4_appeal_2 20 rfl rfl)
theorem dX4_appeal_67 : decode cX4_appeal 67 = .ok (.ireturn, 1) := dk_172 (dk_at dksX4_appeal_2 21 rfl rfl)
theorem dX4_appeal_68 : decode cX4_appeal 68 = .ok (.aload_n 0, 1) := dk_42 (dk_at dksX4_appeal_2 22 rfl rfl)
theorem dX4_appeal_69 : decode cX4_appeal 69 = .ok (.getfield 158, 3) := dk_180 0 158 (dk_at dksX4_appeal_3 0 rfl rfl)
theorem dX4_appeal_72 : decode cX4_appeal 72 = .ok (.aload_n 0, 1) := dk_42 (dk_at dksX4_appeal_3 3 rfl rfl)
theorem dX4_appeal_73 : decode cX4_appeal 73 = .ok (.getfield 385, 3) := dk_180 1 129 (dk_at dksX4_appeal_3 4 rfl rfl)
theorem dX4_appeal_76 : decode cX4_appeal 76 = .ok (.iload_n 1, 1) := dk_27 (dk_at dksX4_appeal_3 7 rfl rfl)
theorem dX4_appeal_77 : decode cX4_appeal 77 = .ok (.iastore, 1) := dk_79 (dk_at dksX4_appeal_3 8 rfl rfl)
theorem dX4_appeal_78 : decode cX4_appeal 78 = .ok (.aload_n 0, 1) := dk_42 (dk_at dksX4_appeal_3 9 rfl rfl)
theorem dX4_appeal_79 : decode cX4_appeal 79 = .ok (.getfield 161, 3) := dk_180 0 161 (dk_at dksX4_appeal_3 10 rfl rfl)
theorem dX4_appeal_82 : decode cX4_appeal 82 = .ok (.aload_n 0, 1) := dk_42 (dk_at dksX4_appeal_3 13 rfl rfl)
theorem dX4_appeal_83 : decode cX4_appeal 83 = .ok (.getfield 385, 3) := dk_180 1 129 (dk_at dksX4_appeal_3 14 rfl rfl)
theorem dX4_appeal_86 : decode cX4_appeal 86 = .ok (.iload_n 2, 1) := dk_28 (dk_at dksX4_appeal_3 17 rfl rfl)
theorem dX4_appeal_87 : decode cX4_appeal 87 = .ok (.iastore, 1) := dk_79 (dk_at dksX4_appeal_3 18 rfl rfl)
theorem dX4_appeal_88 : decode cX4_appeal 88 = .ok (.aload_n 0, 1) := dk_42 (dk_at dksX4_appeal_3 19 rfl rfl)
theorem dX4_appeal_89 : decode cX4_appeal 89 = .ok (.getfield 164, 3) := dk_180 0 164 (dk_at dksX4_appeal_3 20 rfl rfl)
theorem dX4_appeal_92 : decode cX4_appeal 92 = .ok (.aload_n 0, 1) := dk_42 (dk_at dksX4_appeal_3 23 rfl rfl)
theorem dX4_appeal_93 : decode cX4_appeal 93 = .ok (.getfield 385, 3) := dk_180 1 129 (dk_at dksX4_appeal_4 0 rfl rfl)
theorem dX4_appeal_96 : decode cX4_appeal 96 = .ok (.aload_n 0, 1) := dk_42 (dk_at dksX4_appeal_4 3 rfl rfl)
theorem dX4_appeal_97 : decode cX4_appeal 97 = .ok (.getfield 295, 3) := dk_180 1 39 (dk_at dksX4_appeal_4 4 rfl rfl)
theorem dX4_appeal_100 : decode cX4_appeal 100 = .ok (.iastore, 1) := dk_79 (dk_at dksX4_appeal_4 7 rfl rfl)
theorem dX4_appeal_101 : decode cX4_appeal 101 = .ok (.aload_n 0, 1) := dk_42 (dk_at dksX4_appeal_4 8 rfl rfl)
theorem dX4_appeal_102 : decode cX4_appeal 102 = .ok (.dup, 1) := dk_89 (dk_at dksX4_appeal_4 9 rfl rfl)
theorem dX4_appeal_103 : decode cX4_appeal 103 = .ok (.getfield 385, 3) := dk_180 1 129 (dk_at dksX4_appeal_4 10 rfl rfl)
theorem dX4_appeal_106 : decode cX4_appeal 106 = .ok (.iconst 1, 1) := dk_4 (dk_at dksX4_appeal_4 13 rfl rfl)
theorem dX4_appeal_107 : decode cX4_appeal 107 = .ok (.iadd, 1) := dk_96 (dk_at dksX4_appeal_4 14 rfl rfl)
theorem dX4_appeal_108 : decode cX4_appeal 108 = .ok (.putfield 385, 3) := dk_181 1 129 (dk_at dksX4_appeal_4 15 rfl rfl)
theorem dX4_appeal_111 : decode cX4_appeal 111 = .ok (.iconst 1, 1) := dk_4 (dk_at dksX4_appeal_4 18 rfl rfl)
theorem dX4_appeal_112 : decode cX4_appeal 112 = .ok (.ireturn, 1) := dk_172 (dk_at dksX4_appeal_4 19 rfl rfl)
abbrev cX4_look : ByteArray := prog_21_method_64_code
def yX4_look : MethodName := ⟨RX4, "look", "(II)I"⟩
def dkwX4_look_4 : List UInt8 := [27, 46, 172, 42, 27, 182, 1, 197, 153, 0, 7, 4, 167, 0, 4, 3, 172, 42, 27, 182, 1, 157, 172]
abbrev dktX4_look_4 : List UInt8 := dkwX4_look_4 ++ []
def dkwX4_look_3 : List UInt8 := [42, 180, 0, 170, 27, 46, 172, 42, 180, 0, 173, 27, 46, 172, 42, 27, 182, 1, 150, 172, 42, 180, 0, 176]
abbrev dktX4_look_3 : List UInt8 := dkwX4_look_3 ++ dktX4_look_4
def dkwX4_look_2 : List UInt8 := [170, 0, 0, 0, 0, 0, 0, 77, 0, 0, 0, 0, 0, 0, 0, 4, 0, 0, 0, 36, 0, 0, 0, 43, 0, 0, 0, 50, 0, 0, 0, 56, 0, 0, 0, 63]
abbrev dktX4_look_2 : List UInt8 := dkwX4_look_2 ++ dktX4_look_3
def dkwX4_look_1 : List UInt8 := [181, 0, 1, 42, 180, 0, 1, 158, 0, 5, 3, 172, 42, 182, 1, 194, 28]
abbrev dktX4_look_1 : List UInt8 := dkwX4_look_1 ++ dktX4_look_2
def dkwX4_look_0 : List UInt8 := [42, 42, 27, 182, 1, 138, 153, 0, 16, 28, 3, 8, 184, 1, 102, 153, 0, 7, 3, 167, 0, 4, 4]
abbrev dktX4_look_0 : List UInt8 := dkwX4_look_0 ++ dktX4_look_1
theorem dksX4_look_0 : cX4_look.data.toList.drop 0 = dktX4_look_0 := by decide +kernel
theorem dksX4_look_1 : cX4_look.data.toList.drop 23 = dktX4_look_1 := dk_seg dksX4_look_0 23 rfl rfl
theorem dksX4_look_2 : cX4_look.data.toList.drop 40 = dktX4_look_2 := dk_seg dksX4_look_1 17 rfl rfl
theorem dksX4_look_3 : cX4_look.data.toList.drop 76 = dktX4_look_3 := dk_seg dksX4_look_2 36 rfl rfl
theorem dksX4_look_4 : cX4_look.data.toList.drop 100 = dktX4_look_4 := dk_seg dksX4_look_3 24 rfl rfl
theorem dX4_look_0 : decode cX4_look 0 = .ok (.aload_n 0, 1) := dk_42 (dk_at dksX4_look_0 0 rfl rfl)
theorem dX4_look_1 : decode cX4_look 1 = .ok (.aload_n 0, 1) := dk_42 (dk_at dksX4_look_0 1 rfl rfl)
theorem dX4_look_2 : decode cX4_look 2 = .ok (.iload_n 1, 1) := dk_27 (dk_at dksX4_look_0 2 rfl rfl)
theorem dX4_look_3 : decode cX4_look 3 = .ok (.invokevirtual 394, 3) := dk_182 1 138 (dk_at dksX4_look_0 3 rfl rfl)
theorem dX4_look_6 : decode cX4_look 6 = .ok (.ifCond .eq 16, 3) := dk_153 0 16 (dk_at dksX4_look_0 6 rfl rfl)
theorem dX4_look_9 : decode cX4_look 9 = .ok (.iload_n 2, 1) := dk_28 (dk_at dksX4_look_0 9 rfl rfl)
theorem dX4_look_10 : decode cX4_look 10 = .ok (.iconst 0, 1) := dk_3 (dk_at dksX4_look_0 10 rfl rfl)
theorem dX4_look_11 : decode cX4_look 11 = .ok (.iconst 5, 1) := dk_8 (dk_at dksX4_look_0 11 rfl rfl)
theorem dX4_look_12 : decode cX4_look 12 = .ok (.invokestatic 358, 3) := dk_184 1 102 (dk_at dksX4_look_0 12 rfl rfl)
theorem dX4_look_15 : decode cX4_look 15 = .ok (.ifCond .eq 7, 3) := dk_153 0 7 (dk_at dksX4_look_0 15 rfl rfl)
theorem dX4_look_18 : decode cX4_look 18 = .ok (.iconst 0, 1) := dk_3 (dk_at dksX4_look_0 18 rfl rfl)
theorem dX4_look_19 : decode cX4_look 19 = .ok (.goto 4, 3) := dk_167 0 4 (dk_at dksX4_look_0 19 rfl rfl)
theorem dX4_look_22 : decode cX4_look 22 = .ok (.iconst 1, 1) := dk_4 (dk_at dksX4_look_0 22 rfl rfl)
theorem dX4_look_23 : decode cX4_look 23 = .ok (.putfield 1, 3) := dk_181 0 1 (dk_at dksX4_look_1 0 rfl rfl)
theorem dX4_look_26 : decode cX4_look 26 = .ok (.aload_n 0, 1) := dk_42 (dk_at dksX4_look_1 3 rfl rfl)
theorem dX4_look_27 : decode cX4_look 27 = .ok (.getfield 1, 3) := dk_180 0 1 (dk_at dksX4_look_1 4 rfl rfl)
theorem dX4_look_30 : decode cX4_look 30 = .ok (.ifCond .le 5, 3) := dk_158 0 5 (dk_at dksX4_look_1 7 rfl rfl)
theorem dX4_look_33 : decode cX4_look 33 = .ok (.iconst 0, 1) := dk_3 (dk_at dksX4_look_1 10 rfl rfl)
theorem dX4_look_34 : decode cX4_look 34 = .ok (.ireturn, 1) := dk_172 (dk_at dksX4_look_1 11 rfl rfl)
theorem dX4_look_35 : decode cX4_look 35 = .ok (.aload_n 0, 1) := dk_42 (dk_at dksX4_look_1 12 rfl rfl)
theorem dX4_look_36 : decode cX4_look 36 = .ok (.invokevirtual 450, 3) := dk_182 1 194 (dk_at dksX4_look_1 13 rfl rfl)
theorem dX4_look_39 : decode cX4_look 39 = .ok (.iload_n 2, 1) := dk_28 (dk_at dksX4_look_1 16 rfl rfl)
theorem dX4_look_40 : decode cX4_look 40 = .ok (.tableswitch 77 0 4 #[36, 43, 50, 56, 63], 36) := by decide +kernel
theorem dX4_look_76 : decode cX4_look 76 = .ok (.aload_n 0, 1) := dk_42 (dk_at dksX4_look_3 0 rfl rfl)
theorem dX4_look_77 : decode cX4_look 77 = .ok (.getfield 170, 3) := dk_180 0 170 (dk_at dksX4_look_3 1 rfl rfl)
theorem dX4_look_80 : decode cX4_look 80 = .ok (.iload_n 1, 1) := dk_27 (dk_at dksX4_look_3 4 rfl rfl)
theorem dX4_look_81 : decode cX4_look 81 = .ok (.iaload, 1) := dk_46 (dk_at dksX4_look_3 5 rfl rfl)
theorem dX4_look_82 : decode cX4_look 82 = .ok (.ireturn, 1) := dk_172 (dk_at dksX4_look_3 6 rfl rfl)
theorem dX4_look_83 : decode cX4_look 83 = .ok (.aload_n 0, 1) := dk_42 (dk_at dksX4_look_3 7 rfl rfl)
theorem dX4_look_84 : decode cX4_look 84 = .ok (.getfield 173, 3) := dk_180 0 173 (dk_at dksX4_look_3 8 rfl rfl)
theorem dX4_look_87 : decode cX4_look 87 = .ok (.iload_n 1, 1) := dk_27 (dk_at dksX4_look_3 11 rfl rfl)
theorem dX4_look_88 : decode cX4_look 88 = .ok (.iaload, 1) := dk_46 (dk_at dksX4_look_3 12 rfl rfl)
theorem dX4_look_89 : decode cX4_look 89 = .ok (.ireturn, 1) := dk_172 (dk_at dksX4_look_3 13 rfl rfl)
theorem dX4_look_90 : decode cX4_look 90 = .ok (.aload_n 0, 1) := dk_42 (dk_at dksX4_look_3 14 rfl rfl)
theorem dX4_look_91 : decode cX4_look 91 = .ok (.iload_n 1, 1) := dk_27 (dk_at dksX4_look_3 15 rfl rfl)
theorem dX4_look_92 : decode cX4_look 92 = .ok (.invokevirtual 406, 3) := dk_182 1 150 (dk_at dksX4_look_3 16 rfl rfl)
theorem dX4_look_95 : decode cX4_look 95 = .ok (.ireturn, 1) := dk_172 (dk_at dksX4_look_3 19 rfl rfl)
theorem dX4_look_96 : decode cX4_look 96 = .ok (.aload_n 0, 1) := dk_42 (dk_at dksX4_look_3 20 rfl rfl)
theorem dX4_look_97 : decode cX4_look 97 = .ok (.getfield 176, 3) := dk_180 0 176 (dk_at dksX4_look_3 21 rfl rfl)
theorem dX4_look_100 : decode cX4_look 100 = .ok (.iload_n 1, 1) := dk_27 (dk_at dksX4_look_4 0 rfl rfl)
theorem dX4_look_101 : decode cX4_look 101 = .ok (.iaload, 1) := dk_46 (dk_at dksX4_look_4 1 rfl rfl)
theorem dX4_look_102 : decode cX4_look 102 = .ok (.ireturn, 1) := dk_172 (dk_at dksX4_look_4 2 rfl rfl)
theorem dX4_look_103 : decode cX4_look 103 = .ok (.aload_n 0, 1) := dk_42 (dk_at dksX4_look_4 3 rfl rfl)
theorem dX4_look_104 : decode cX4_look 104 = .ok (.iload_n 1, 1) := dk_27 (dk_at dksX4_look_4 4 rfl rfl)
theorem dX4_look_105 : decode cX4_look 105 = .ok (.invokevirtual 453, 3) := dk_182 1 197 (dk_at dksX4_look_4 5 rfl rfl)
theorem dX4_look_108 : decode cX4_look 108 = .ok (.ifCond .eq 7, 3) := dk_153 0 7 (dk_at dksX4_look_4 8 rfl rfl)
theorem dX4_look_111 : decode cX4_look 111 = .ok (.iconst 1, 1) := dk_4 (dk_at dksX4_look_4 11 rfl rfl)
theorem dX4_look_112 : decode cX4_look 112 = .ok (.goto 4, 3) := dk_167 0 4 (dk_at dksX4_look_4 12 rfl rfl)
theorem dX4_look_115 : decode cX4_look 115 = .ok (.iconst 0, 1) := dk_3 (dk_at dksX4_look_4 15 rfl rfl)
theorem dX4_look_116 : decode cX4_look 116 = .ok (.ireturn, 1) := dk_172 (dk_at dksX4_look_4 16 rfl rfl)
theorem dX4_look_117 : decode cX4_look 117 = .ok (.aload_n 0, 1) := dk_42 (dk_at dksX4_look_4 17 rfl rfl)
theorem dX4_look_118 : decode cX4_look 118 = .ok (.iload_n 1, 1) := dk_27 (dk_at dksX4_look_4 18 rfl rfl)
theorem dX4_look_119 : decode cX4_look 119 = .ok (.invokevirtual 413, 3) := dk_182 1 157 (dk_at dksX4_look_4 19 rfl rfl)
theorem dX4_look_122 : decode cX4_look 122 = .ok (.ireturn, 1) := dk_172 (dk_at dksX4_look_4 22 rfl rfl)
abbrev cX4_isSeen : ByteArray := prog_21_method_49_code
def yX4_isSeen : MethodName := ⟨RX4, "isSeen", "(I)Z"⟩
def dkwX4_isSeen_1 : List UInt8 := [163, 0, 7, 4, 167, 0, 4, 3, 172]
abbrev dktX4_isSeen_1 : List UInt8 := dkwX4_isSeen_1 ++ []
def dkwX4_isSeen_0 : List UInt8 := [27, 155, 0, 28, 27, 42, 180, 1, 116, 162, 0, 20, 42, 180, 0, 155, 27, 46, 42, 182, 1, 132]
abbrev dktX4_isSeen_0 : List UInt8 := dkwX4_isSeen_0 ++ dktX4_isSeen_1
theorem dksX4_isSeen_0 : cX4_isSeen.data.toList.drop 0 = dktX4_isSeen_0 := by decide +kernel
theorem dksX4_isSeen_1 : cX4_isSeen.data.toList.drop 22 = dktX4_isSeen_1 := dk_seg dksX4_isSeen_0 22 rfl rfl
theorem dX4_isSeen_0 : decode cX4_isSeen 0 = .ok (.iload_n 1, 1) := dk_27 (dk_at dksX4_isSeen_0 0 rfl rfl)
theorem dX4_isSeen_1 : decode cX4_isSeen 1 = .ok (.ifCond .lt 28, 3) := dk_155 0 28 (dk_at dksX4_isSeen_0 1 rfl rfl)
theorem dX4_isSeen_4 : decode cX4_isSeen 4 = .ok (.iload_n 1, 1) := dk_27 (dk_at dksX4_isSeen_0 4 rfl rfl)
theorem dX4_isSeen_5 : decode cX4_isSeen 5 = .ok (.aload_n 0, 1) := dk_42 (dk_at dksX4_isSeen_0 5 rfl rfl)
theorem dX4_isSeen_6 : decode cX4_isSeen 6 = .ok (.getfield 372, 3) := dk_180 1 116 (dk_at dksX4_isSeen_0 6 rfl rfl)
theorem dX4_isSeen_9 : decode cX4_isSeen 9 = .ok (.if_icmp .ge 20, 3) := dk_162 0 20 (dk_at dksX4_isSeen_0 9 rfl rfl)
theorem dX4_isSeen_12 : decode cX4_isSeen 12 = .ok (.aload_n 0, 1) := dk_42 (dk_at dksX4_isSeen_0 12 rfl rfl)
theorem dX4_isSeen_13 : decode cX4_isSeen 13 = .ok (.getfield 155, 3) := dk_180 0 155 (dk_at dksX4_isSeen_0 13 rfl rfl)
theorem dX4_isSeen_16 : decode cX4_isSeen 16 = .ok (.iload_n 1, 1) := dk_27 (dk_at dksX4_isSeen_0 16 rfl rfl)
theorem dX4_isSeen_17 : decode cX4_isSeen 17 = .ok (.iaload, 1) := dk_46 (dk_at dksX4_isSeen_0 17 rfl rfl)
theorem dX4_isSeen_18 : decode cX4_isSeen 18 = .ok (.aload_n 0, 1) := dk_42 (dk_at dksX4_isSeen_0 18 rfl rfl)
theorem dX4_isSeen_19 : decode cX4_isSeen 19 = .ok (.invokevirtual 388, 3) := dk_182 1 132 (dk_at dksX4_isSeen_0 19 rfl rfl)
theorem dX4_isSeen_22 : decode cX4_isSeen 22 = .ok (.if_icmp .gt 7, 3) := dk_163 0 7 (dk_at dksX4_isSeen_1 0 rfl rfl)
theorem dX4_isSeen_25 : decode cX4_isSeen 25 = .ok (.iconst 1, 1) := dk_4 (dk_at dksX4_isSeen_1 3 rfl rfl)
theorem dX4_isSeen_26 : decode cX4_isSeen 26 = .ok (.goto 4, 3) := dk_167 0 4 (dk_at dksX4_isSeen_1 4 rfl rfl)
theorem dX4_isSeen_29 : decode cX4_isSeen 29 = .ok (.iconst 0, 1) := dk_3 (dk_at dksX4_isSeen_1 7 rfl rfl)
theorem dX4_isSeen_30 : decode cX4_isSeen 30 = .ok (.ireturn, 1) := dk_172 (dk_at dksX4_isSeen_1 8 rfl rfl)
abbrev cX4_viewDay : ByteArray := prog_21_method_39_code
def yX4_viewDay : MethodName := ⟨RX4, "viewDay", "()I"⟩
def dkwX4_viewDay_0 : List UInt8 := [42, 180, 0, 216, 156, 0, 10, 42, 180, 1, 39, 167, 0, 7, 42, 180, 0, 216, 172]
abbrev dktX4_viewDay_0 : List UInt8 := dkwX4_viewDay_0 ++ []
theorem dksX4_viewDay_0 : cX4_viewDay.data.toList.drop 0 = dktX4_viewDay_0 := by decide +kernel
theorem dX4_viewDay_0 : decode cX4_viewDay 0 = .ok (.aload_n 0, 1) := dk_42 (dk_at dksX4_viewDay_0 0 rfl rfl)
theorem dX4_viewDay_1 : decode cX4_viewDay 1 = .ok (.getfield 216, 3) := dk_180 0 216 (dk_at dksX4_viewDay_0 1 rfl rfl)
theorem dX4_viewDay_4 : decode cX4_viewDay 4 = .ok (.ifCond .ge 10, 3) := dk_156 0 10 (dk_at dksX4_viewDay_0 4 rfl rfl)
theorem dX4_viewDay_7 : decode cX4_viewDay 7 = .ok (.aload_n 0, 1) := dk_42 (dk_at dksX4_viewDay_0 7 rfl rfl)
theorem dX4_viewDay_8 : decode cX4_viewDay 8 = .ok (.getfield 295, 3) := dk_180 1 39 (dk_at dksX4_viewDay_0 8 rfl rfl)
theorem dX4_viewDay_11 : decode cX4_viewDay 11 = .ok (.goto 7, 3) := dk_167 0 7 (dk_at dksX4_viewDay_0 11 rfl rfl)
theorem dX4_viewDay_14 : decode cX4_viewDay 14 = .ok (.aload_n 0, 1) := dk_42 (dk_at dksX4_viewDay_0 14 rfl rfl)
theorem dX4_viewDay_15 : decode cX4_viewDay 15 = .ok (.getfield 216, 3) := dk_180 0 216 (dk_at dksX4_viewDay_0 15 rfl rfl)
theorem dX4_viewDay_18 : decode cX4_viewDay 18 = .ok (.ireturn, 1) := dk_172 (dk_at dksX4_viewDay_0 18 rfl rfl)
abbrev cX4_findAll : ByteArray := prog_21_method_56_code
def yX4_findAll : MethodName := ⟨RX4, "findAll", "()V"⟩
def dkwX4_findAll_14 : List UInt8 := [181, 1, 166, 132, 1, 1, 167, 255, 127, 177]
abbrev dktX4_findAll_14 : List UInt8 := dkwX4_findAll_14 ++ []
def dkwX4_findAll_13 : List UInt8 := [42, 180, 0, 140, 42, 180, 0, 167, 27, 46, 46, 182, 1, 169, 42, 89, 180, 1, 166, 42, 180, 1, 172, 96]
abbrev dktX4_findAll_13 : List UInt8 := dkwX4_findAll_13 ++ dktX4_findAll_14
def dkwX4_findAll_12 : List UInt8 := [3, 61, 132, 3, 1, 167, 255, 188, 28, 153, 0, 42, 42, 42, 180, 0, 137, 42, 180, 0, 167, 27, 46, 46]
abbrev dktX4_findAll_12 : List UInt8 := dkwX4_findAll_12 ++ dktX4_findAll_13
def dkwX4_findAll_11 : List UInt8 := [180, 0, 167, 29, 46, 46, 42, 180, 0, 140, 42, 180, 0, 167, 27, 46, 46, 159, 0, 7, 4, 167, 0, 4]
abbrev dktX4_findAll_11 : List UInt8 := dkwX4_findAll_11 ++ dktX4_findAll_12
def dkwX4_findAll_10 : List UInt8 := [29, 46, 46, 42, 180, 0, 137, 42, 180, 0, 167, 27, 46, 46, 160, 0, 28, 42, 180, 0, 140, 42]
abbrev dktX4_findAll_10 : List UInt8 := dkwX4_findAll_10 ++ dktX4_findAll_11
def dkwX4_findAll_9 : List UInt8 := [162, 0, 127, 4, 61, 3, 62, 29, 27, 162, 0, 69, 28, 153, 0, 57, 42, 180, 0, 137, 42, 180, 0, 167]
abbrev dktX4_findAll_9 : List UInt8 := dkwX4_findAll_9 ++ dktX4_findAll_10
def dkwX4_findAll_8 : List UInt8 := [167, 0, 4, 4, 79, 132, 1, 1, 167, 255, 154, 42, 3, 181, 1, 166, 3, 60, 27, 42, 180, 1, 144]
abbrev dktX4_findAll_8 : List UInt8 := dkwX4_findAll_8 ++ dktX4_findAll_9
def dkwX4_findAll_7 : List UInt8 := [180, 0, 173, 28, 42, 180, 1, 96, 79, 42, 180, 0, 176, 28, 42, 28, 182, 1, 163, 153, 0, 7, 3]
abbrev dktX4_findAll_7 : List UInt8 := dkwX4_findAll_7 ++ dktX4_findAll_8
def dkwX4_findAll_6 : List UInt8 := [182, 1, 153, 42, 42, 28, 182, 1, 157, 182, 1, 160, 42, 180, 0, 170, 28, 42, 180, 1, 93, 79, 42]
abbrev dktX4_findAll_6 : List UInt8 := dkwX4_findAll_6 ++ dktX4_findAll_7
def dkwX4_findAll_5 : List UInt8 := [62, 42, 28, 42, 28, 182, 1, 150, 29, 156, 0, 7, 3, 167, 0, 9, 42, 180, 0, 170, 29, 46]
abbrev dktX4_findAll_5 : List UInt8 := dkwX4_findAll_5 ++ dktX4_findAll_6
def dkwX4_findAll_4 : List UInt8 := [180, 1, 144, 162, 0, 100, 42, 180, 0, 167, 27, 46, 61, 42, 42, 180, 0, 134, 28, 46, 28, 182, 1, 147]
abbrev dktX4_findAll_4 : List UInt8 := dkwX4_findAll_4 ++ dktX4_findAll_5
def dkwX4_findAll_3 : List UInt8 := [28, 27, 79, 42, 89, 180, 1, 144, 4, 96, 181, 1, 144, 132, 1, 1, 167, 255, 175, 3, 60, 27, 42]
abbrev dktX4_findAll_3 : List UInt8 := dkwX4_findAll_3 ++ dktX4_findAll_4
def dkwX4_findAll_2 : List UInt8 := [42, 180, 0, 167, 28, 42, 180, 0, 167, 28, 4, 100, 46, 79, 132, 2, 255, 167, 255, 219, 42, 180, 0, 167]
abbrev dktX4_findAll_2 : List UInt8 := dkwX4_findAll_2 ++ dktX4_findAll_3
def dkwX4_findAll_1 : List UInt8 := [180, 1, 144, 61, 28, 158, 0, 39, 42, 27, 42, 180, 0, 167, 28, 4, 100, 46, 182, 1, 141, 153, 0, 23]
abbrev dktX4_findAll_1 : List UInt8 := dkwX4_findAll_1 ++ dktX4_findAll_2
def dkwX4_findAll_0 : List UInt8 := [42, 3, 181, 1, 144, 3, 60, 27, 42, 180, 1, 116, 162, 0, 79, 42, 27, 182, 1, 138, 153, 0, 65, 42]
abbrev dktX4_findAll_0 : List UInt8 := dkwX4_findAll_0 ++ dktX4_findAll_1
theorem dksX4_findAll_0 : cX4_findAll.data.toList.drop 0 = dktX4_findAll_0 := by decide +kernel
theorem dksX4_findAll_1 : cX4_findAll.data.toList.drop 24 = dktX4_findAll_1 := dk_seg dksX4_findAll_0 24 rfl rfl
theorem dksX4_findAll_2 : cX4_findAll.data.toList.drop 48 = dktX4_findAll_2 := dk_seg dksX4_findAll_1 24 rfl rfl
theorem dksX4_findAll_3 : cX4_findAll.data.toList.drop 72 = dktX4_findAll_3 := dk_seg dksX4_findAll_2 24 rfl rfl
theorem dksX4_findAll_4 : cX4_findAll.data.toList.drop 95 = dktX4_findAll_4 := dk_seg dksX4_findAll_3 23 rfl rfl
theorem dksX4_findAll_5 : cX4_findAll.data.toList.drop 119 = dktX4_findAll_5 := dk_seg dksX4_findAll_4 24 rfl rfl
theorem dksX4_findAll_6 : cX4_findAll.data.toList.drop 141 = dktX4_findAll_6 := dk_seg dksX4_findAll_5 22 rfl rfl
theorem dksX4_findAll_7 : cX4_findAll.data.toList.drop 164 = dktX4_findAll_7 := dk_seg dksX4_findAll_6 23 rfl rfl
theorem dksX4_findAll_8 : cX4_findAll.data.toList.drop 187 = dktX4_findAll_8 := dk_seg dksX4_findAll_7 23 rfl rfl
theorem dksX4_findAll_9 : cX4_findAll.data.toList.drop 210 = dktX4_findAll_9 := dk_seg dksX4_findAll_8 23 rfl rfl
theorem dksX4_findAll_10 : cX4_findAll.data.toList.drop 234 = dktX4_findAll_10 := dk_seg dksX4_findAll_9 24 rfl rfl
theorem dksX4_findAll_11 : cX4_findAll.data.toList.drop 256 = dktX4_findAll_11 := dk_seg dksX4_findAll_10 22 rfl rfl
theorem dksX4_findAll_12 : cX4_findAll.data.toList.drop 280 = dktX4_findAll_12 := dk_seg dksX4_findAll_11 24 rfl rfl
theorem dksX4_findAll_13 : cX4_findAll.data.toList.drop 304 = dktX4_findAll_13 := dk_seg dksX4_findAll_12 24 rfl rfl
theorem dksX4_findAll_14 : cX4_findAll.data.toList.drop 328 = dktX4_findAll_14 := dk_seg dksX4_findAll_13 24 rfl rfl
theorem dX4_findAll_0 : decode cX4_findAll 0 = .ok (.aload_n 0, 1) := dk_42 (dk_at dksX4_findAll_0 0 rfl rfl)
theorem dX4_findAll_1 : decode cX4_findAll 1 = .ok (.iconst 0, 1) := dk_3 (dk_at dksX4_findAll_0 1 rfl rfl)
theorem dX4_findAll_2 : decode cX4_findAll 2 = .ok (.putfield 400, 3) := dk_181 1 144 (dk_at dksX4_findAll_0 2 rfl rfl)
theorem dX4_findAll_5 : decode cX4_findAll 5 = .ok (.iconst 0, 1) := dk_3 (dk_at dksX4_findAll_0 5 rfl rfl)
theorem dX4_findAll_6 : decode cX4_findAll 6 = .ok (.istore_n 1, 1) := dk_60 (dk_at dksX4_findAll_0 6 rfl rfl)
theorem dX4_findAll_7 : decode cX4_findAll 7 = .ok (.iload_n 1, 1) := dk_27 (dk_at dksX4_findAll_0 7 rfl rfl)
theorem dX4_findAll_8 : decode cX4_findAll 8 = .ok (.aload_n 0, 1) := dk_42 (dk_at dksX4_findAll_0 8 rfl rfl)
theorem dX4_findAll_9 : decode cX4_findAll 9 = .ok (.getfield 372, 3) := dk_180 1 116 (dk_at dksX4_findAll_0 9 rfl rfl)
theorem dX4_findAll_12 : decode cX4_findAll 12 = .ok (.if_icmp .ge 79, 3) := dk_162 0 79 (dk_at dksX4_findAll_0 12 rfl rfl)
theorem dX4_findAll_15 : decode cX4_findAll 15 = .ok (.aload_n 0, 1) := dk_42 (dk_at dksX4_findAll_0 15 rfl rfl)
theorem dX4_findAll_16 : decode cX4_findAll 16 = .ok (.iload_n 1, 1) := dk_27 (dk_at dksX4_findAll_0 16 rfl rfl)
theorem dX4_findAll_17 : decode cX4_findAll 17 = .ok (.invokevirtual 394, 3) := dk_182 1 138 (dk_at dksX4_findAll_0 17 rfl rfl)
theorem dX4_findAll_20 : decode cX4_findAll 20 = .ok (.ifCond .eq 65, 3) := dk_153 0 65 (dk_at dksX4_findAll_0 20 rfl rfl)
theorem dX4_findAll_23 : decode cX4_findAll 23 = .ok (.aload_n 0, 1) := dk_42 (dk_at dksX4_findAll_0 23 rfl rfl)
theorem dX4_findAll_24 : decode cX4_findAll 24 = .ok (.getfield 400, 3) := dk_180 1 144 (dk_at dksX4_findAll_1 0 rfl rfl)
theorem dX4_findAll_27 : decode cX4_findAll 27 = .ok (.istore_n 2, 1) := dk_61 (dk_at dksX4_findAll_1 3 rfl rfl)
theorem dX4_findAll_28 : decode cX4_findAll 28 = .ok (.iload_n 2, 1) := dk_28 (dk_at dksX4_findAll_1 4 rfl rfl)
theorem dX4_findAll_29 : decode cX4_findAll 29 = .ok (.ifCond .le 39, 3) := dk_158 0 39 (dk_at dksX4_findAll_1 5 rfl rfl)
theorem dX4_findAll_32 : decode cX4_findAll 32 = .ok (.aload_n 0, 1) := dk_42 (dk_at dksX4_findAll_1 8 rfl rfl)
theorem dX4_findAll_33 : decode cX4_findAll 33 = .ok (.iload_n 1, 1) := dk_27 (dk_at dksX4_findAll_1 9 rfl rfl)
theorem dX4_findAll_34 : decode cX4_findAll 34 = .ok (.aload_n 0, 1) := dk_42 (dk_at dksX4_findAll_1 10 rfl rfl)
theorem dX4_findAll_35 : decode cX4_findAll 35 = .ok (.getfield 167, 3) := dk_180 0 167 (dk_at dksX4_findAll_1 11 rfl rfl)
theorem dX4_findAll_38 : decode cX4_findAll 38 = .ok (.iload_n 2, 1) := dk_28 (dk_at dksX4_findAll_1 14 rfl rfl)
theorem dX4_findAll_39 : decode cX4_findAll 39 = .ok (.iconst 1, 1) := dk_4 (dk_at dksX4_findAll_1 15 rfl rfl)
theorem dX4_findAll_40 : decode cX4_findAll 40 = .ok (.isub, 1) := dk_100 (dk_at dksX4_findAll_1 16 rfl rfl)
theorem dX4_findAll_41 : decode cX4_findAll 41 = .ok (.iaload, 1) := dk_46 (dk_at dksX4_findAll_1 17 rfl rfl)
theorem dX4_findAll_42 : decode cX4_findAll 42 = .ok (.invokevirtual 397, 3) := dk_182 1 141 (dk_at dksX4_findAll_1 18 rfl rfl)
theorem dX4_findAll_45 : decode cX4_findAll 45 = .ok (.ifCond .eq 23, 3) := dk_153 0 23 (dk_at dksX4_findAll_1 21 rfl rfl)
theorem dX4_findAll_48 : decode cX4_findAll 48 = .ok (.aload_n 0, 1) := dk_42 (dk_at dksX4_findAll_2 0 rfl rfl)
theorem dX4_findAll_49 : decode cX4_findAll 49 = .ok (.getfield 167, 3) := dk_180 0 167 (dk_at dksX4_findAll_2 1 rfl rfl)
theorem dX4_findAll_52 : decode cX4_findAll 52 = .ok (.iload_n 2, 1) := dk_28 (dk_at dksX4_findAll_2 4 rfl rfl)
theorem dX4_findAll_53 : decode cX4_findAll 53 = .ok (.aload_n 0, 1) := dk_42 (dk_at dksX4_findAll_2 5 rfl rfl)
theorem dX4_findAll_54 : decode cX4_findAll 54 = .ok (.getfield 167, 3) := dk_180 0 167 (dk_at dksX4_findAll_2 6 rfl rfl)
theorem dX4_findAll_57 : decode cX4_findAll 57 = .ok (.iload_n 2, 1) := dk_28 (dk_at dksX4_findAll_2 9 rfl rfl)
theorem dX4_findAll_58 : decode cX4_findAll 58 = .ok (.iconst 1, 1) := dk_4 (dk_at dksX4_findAll_2 10 rfl rfl)
theorem dX4_findAll_59 : decode cX4_findAll 59 = .ok (.isub, 1) := dk_100 (dk_at dksX4_findAll_2 11 rfl rfl)
theorem dX4_findAll_60 : decode cX4_findAll 60 = .ok (.iaload, 1) := dk_46 (dk_at dksX4_findAll_2 12 rfl rfl)
theorem dX4_findAll_61 : decode cX4_findAll 61 = .ok (.iastore, 1) := dk_79 (dk_at dksX4_findAll_2 13 rfl rfl)
theorem dX4_findAll_62 : decode cX4_findAll 62 = .ok (.iinc 2 (-1), 3) := dk_132 2 255 (dk_at dksX4_findAll_2 14 rfl rfl)
theorem dX4_findAll_65 : decode cX4_findAll 65 = .ok (.goto (-37), 3) := dk_167 255 219 (dk_at dksX4_findAll_2 17 rfl rfl)
theorem dX4_findAll_68 : decode cX4_findAll 68 = .ok (.aload_n 0, 1) := dk_42 (dk_at dksX4_findAll_2 20 rfl rfl)
theorem dX4_findAll_69 : decode cX4_findAll 69 = .ok (.getfield 167, 3) := dk_180 0 167 (dk_at dksX4_findAll_2 21 rfl rfl)
theorem dX4_findAll_72 : decode cX4_findAll 72 = .ok (.iload_n 2, 1) := dk_28 (dk_at dksX4_findAll_3 0 rfl rfl)
theorem dX4_findAll_73 : decode cX4_findAll 73 = .ok (.iload_n 1, 1) := dk_27 (dk_at dksX4_findAll_3 1 rfl rfl)
theorem dX4_findAll_74 : decode cX4_findAll 74 = .ok (.iastore, 1) := dk_79 (dk_at dksX4_findAll_3 2 rfl rfl)
theorem dX4_findAll_75 : decode cX4_findAll 75 = .ok (.aload_n 0, 1) := dk_42 (dk_at dksX4_findAll_3 3 rfl rfl)
theorem dX4_findAll_76 : decode cX4_findAll 76 = .ok (.dup, 1) := dk_89 (dk_at dksX4_findAll_3 4 rfl rfl)
theorem dX4_findAll_77 : decode cX4_findAll 77 = .ok (.getfield 400, 3) := dk_180 1 144 (dk_at dksX4_findAll_3 5 rfl rfl)
theorem dX4_findAll_80 : decode cX4_findAll 80 = .ok (.iconst 1, 1) := dk_4 (dk_at dksX4_findAll_3 8 rfl rfl)
theorem dX4_findAll_81 : decode cX4_findAll 81 = .ok (.iadd, 1) := dk_96 (dk_at dksX4_findAll_3 9 rfl rfl)
theorem dX4_findAll_82 : decode cX4_findAll 82 = .ok (.putfield 400, 3) := dk_181 1 144 (dk_at dksX4_findAll_3 10 rfl rfl)
theorem dX4_findAll_85 : decode cX4_findAll 85 = .ok (.iinc 1 1, 3) := dk_132 1 1 (dk_at dksX4_findAll_3 13 rfl rfl)
theorem dX4_findAll_88 : decode cX4_findAll 88 = .ok (.goto (-81), 3) := dk_167 255 175 (dk_at dksX4_findAll_3 16 rfl rfl)
theorem dX4_findAll_91 : decode cX4_findAll 91 = .ok (.iconst 0, 1) := dk_3 (dk_at dksX4_findAll_3 19 rfl rfl)
theorem dX4_findAll_92 : decode cX4_findAll 92 = .ok (.istore_n 1, 1) := dk_60 (dk_at dksX4_findAll_3 20 rfl rfl)
theorem dX4_findAll_93 : decode cX4_findAll 93 = .ok (.iload_n 1, 1) := dk_27 (dk_at dksX4_findAll_3 21 rfl rfl)
theorem dX4_findAll_94 : decode cX4_findAll 94 = .ok (.aload_n 0, 1) := dk_42 (dk_at dksX4_findAll_3 22 rfl rfl)
theorem dX4_findAll_95 : decode cX4_findAll 95 = .ok (.getfield 400, 3) := dk_180 1 144 (dk_at dksX4_findAll_4 0 rfl rfl)
theorem dX4_findAll_98 : decode cX4_findAll 98 = .ok (.if_icmp .ge 100, 3) := dk_162 0 100 (dk_at dksX4_findAll_4 3 rfl rfl)
theorem dX4_findAll_101 : decode cX4_findAll 101 = .ok (.aload_n 0, 1) := dk_42 (dk_at dksX4_findAll_4 6 rfl rfl)
theorem dX4_findAll_102 : decode cX4_findAll 102 = .ok (.getfield 167, 3) := dk_180 0 167 (dk_at dksX4_findAll_4 7 rfl rfl)
theorem dX4_findAll_105 : decode cX4_findAll 105 = .ok (.iload_n 1, 1) := dk_27 (dk_at dksX4_findAll_4 10 rfl rfl)
theorem dX4_findAll_106 : decode cX4_findAll 106 = .ok (.iaload, 1) := dk_46 (dk_at dksX4_findAll_4 11 rfl rfl)
theorem dX4_findAll_107 : decode cX4_findAll 107 = .ok (.istore_n 2, 1) := dk_61 (dk_at dksX4_findAll_4 12 rfl rfl)
theorem dX4_findAll_108 : decode cX4_findAll 108 = .ok (.aload_n 0, 1) := dk_42 (dk_at dksX4_findAll_4 13 rfl rfl)
theorem dX4_findAll_109 : decode cX4_findAll 109 = .ok (.aload_n 0, 1) := dk_42 (dk_at dksX4_findAll_4 14 rfl rfl)
theorem dX4_findAll_110 : decode cX4_findAll 110 = .ok (.getfield 134, 3) := dk_180 0 134 (dk_at dksX4_findAll_4 15 rfl rfl)
theorem dX4_findAll_113 : decode cX4_findAll 113 = .ok (.iload_n 2, 1) := dk_28 (dk_at dksX4_findAll_4 18 rfl rfl)
theorem dX4_findAll_114 : decode cX4_findAll 114 = .ok (.iaload, 1) := dk_46 (dk_at dksX4_findAll_4 19 rfl rfl)
theorem dX4_findAll_115 : decode cX4_findAll 115 = .ok (.iload_n 2, 1) := dk_28 (dk_at dksX4_findAll_4 20 rfl rfl)
theorem dX4_findAll_116 : decode cX4_findAll 116 = .ok (.invokevirtual 403, 3) := dk_182 1 147 (dk_at dksX4_findAll_4 21 rfl rfl)
theorem dX4_findAll_119 : decode cX4_findAll 119 = .ok (.istore_n 3, 1) := dk_62 (dk_at dksX4_findAll_5 0 rfl rfl)
theorem dX4_findAll_120 : decode cX4_findAll 120 = .ok (.aload_n 0, 1) := dk_42 (dk_at dksX4_findAll_5 1 rfl rfl)
theorem dX4_findAll_121 : decode cX4_findAll 121 = .ok (.iload_n 2, 1) := dk_28 (dk_at dksX4_findAll_5 2 rfl rfl)
theorem dX4_findAll_122 : decode cX4_findAll 122 = .ok (.aload_n 0, 1) := dk_42 (dk_at dksX4_findAll_5 3 rfl rfl)
theorem dX4_findAll_123 : decode cX4_findAll 123 = .ok (.iload_n 2, 1) := dk_28 (dk_at dksX4_findAll_5 4 rfl rfl)
theorem dX4_findAll_124 : decode cX4_findAll 124 = .ok (.invokevirtual 406, 3) := dk_182 1 150 (dk_at dksX4_findAll_5 5 rfl rfl)
theorem dX4_findAll_127 : decode cX4_findAll 127 = .ok (.iload_n 3, 1) := dk_29 (dk_at dksX4_findAll_5 8 rfl rfl)
theorem dX4_findAll_128 : decode cX4_findAll 128 = .ok (.ifCond .ge 7, 3) := dk_156 0 7 (dk_at dksX4_findAll_5 9 rfl rfl)
theorem dX4_findAll_131 : decode cX4_findAll 131 = .ok (.iconst 0, 1) := dk_3 (dk_at dksX4_findAll_5 12 rfl rfl)
theorem dX4_findAll_132 : decode cX4_findAll 132 = .ok (.goto 9, 3) := dk_167 0 9 (dk_at dksX4_findAll_5 13 rfl rfl)
theorem dX4_findAll_135 : decode cX4_findAll 135 = .ok (.aload_n 0, 1) := dk_42 (dk_at dksX4_findAll_5 16 rfl rfl)
theorem dX4_findAll_136 : decode cX4_findAll 136 = .ok (.getfield 170, 3) := dk_180 0 170 (dk_at dksX4_findAll_5 17 rfl rfl)
theorem dX4_findAll_139 : decode cX4_findAll 139 = .ok (.iload_n 3, 1) := dk_29 (dk_at dksX4_findAll_5 20 rfl rfl)
theorem dX4_findAll_140 : decode cX4_findAll 140 = .ok (.iaload, 1) := dk_46 (dk_at dksX4_findAll_5 21 rfl rfl)
theorem dX4_findAll_141 : decode cX4_findAll 141 = .ok (.invokevirtual 409, 3) := dk_182 1 153 (dk_at dksX4_findAll_6 0 rfl rfl)
theorem dX4_findAll_144 : decode cX4_findAll 144 = .ok (.aload_n 0, 1) := dk_42 (dk_at dksX4_findAll_6 3 rfl rfl)
theorem dX4_findAll_145 : decode cX4_findAll 145 = .ok (.aload_n 0, 1) := dk_42 (dk_at dksX4_findAll_6 4 rfl rfl)
theorem dX4_findAll_146 : decode cX4_findAll 146 = .ok (.iload_n 2, 1) := dk_28 (dk_at dksX4_findAll_6 5 rfl rfl)
theorem dX4_findAll_147 : decode cX4_findAll 147 = .ok (.invokevirtual 413, 3) := dk_182 1 157 (dk_at dksX4_findAll_6 6 rfl rfl)
theorem dX4_findAll_150 : decode cX4_findAll 150 = .ok (.invokevirtual 416, 3) := dk_182 1 160 (dk_at dksX4_findAll_6 9 rfl rfl)
theorem dX4_findAll_153 : decode cX4_findAll 153 = .ok (.aload_n 0, 1) := dk_42 (dk_at dksX4_findAll_6 12 rfl rfl)
theorem dX4_findAll_154 : decode cX4_findAll 154 = .ok (.getfield 170, 3) := dk_180 0 170 (dk_at dksX4_findAll_6 13 rfl rfl)
theorem dX4_findAll_157 : decode cX4_findAll 157 = .ok (.iload_n 2, 1) := dk_28 (dk_at dksX4_findAll_6 16 rfl rfl)
theorem dX4_findAll_158 : decode cX4_findAll 158 = .ok (.aload_n 0, 1) := dk_42 (dk_at dksX4_findAll_6 17 rfl rfl)
theorem dX4_findAll_159 : decode cX4_findAll 159 = .ok (.getfield 349, 3) := dk_180 1 93 (dk_at dksX4_findAll_6 18 rfl rfl)
theorem dX4_findAll_162 : decode cX4_findAll 162 = .ok (.iastore, 1) := dk_79 (dk_at dksX4_findAll_6 21 rfl rfl)
theorem dX4_findAll_163 : decode cX4_findAll 163 = .ok (.aload_n 0, 1) := dk_42 (dk_at dksX4_findAll_6 22 rfl rfl)
theorem dX4_findAll_164 : decode cX4_findAll 164 = .ok (.getfield 173, 3) := dk_180 0 173 (dk_at dksX4_findAll_7 0 rfl rfl)
theorem dX4_findAll_167 : decode cX4_findAll 167 = .ok (.iload_n 2, 1) := dk_28 (dk_at dksX4_findAll_7 3 rfl rfl)
theorem dX4_findAll_168 : decode cX4_findAll 168 = .ok (.aload_n 0, 1) := dk_42 (dk_at dksX4_findAll_7 4 rfl rfl)
theorem dX4_findAll_169 : decode cX4_findAll 169 = .ok (.getfield 352, 3) := dk_180 1 96 (dk_at dksX4_findAll_7 5 rfl rfl)
theorem dX4_findAll_172 : decode cX4_findAll 172 = .ok (.iastore, 1) := dk_79 (dk_at dksX4_findAll_7 8 rfl rfl)
theorem dX4_findAll_173 : decode cX4_findAll 173 = .ok (.aload_n 0, 1) := dk_42 (dk_at dksX4_findAll_7 9 rfl rfl)
theorem dX4_findAll_174 : decode cX4_findAll 174 = .ok (.getfield 176, 3) := dk_180 0 176 (dk_at dksX4_findAll_7 10 rfl rfl)
theorem dX4_findAll_177 : decode cX4_findAll 177 = .ok (.iload_n 2, 1) := dk_28 (dk_at dksX4_findAll_7 13 rfl rfl)
theorem dX4_findAll_178 : decode cX4_findAll 178 = .ok (.aload_n 0, 1) := dk_42 (dk_at dksX4_findAll_7 14 rfl rfl)
theorem dX4_findAll_179 : decode cX4_findAll 179 = .ok (.iload_n 2, 1) := dk_28 (dk_at dksX4_findAll_7 15 rfl rfl)
theorem dX4_findAll_180 : decode cX4_findAll 180 = .ok (.invokevirtual 419, 3) := dk_182 1 163 (dk_at dksX4_findAll_7 16 rfl rfl)
theorem dX4_findAll_183 : decode cX4_findAll 183 = .ok (.ifCond .eq 7, 3) := dk_153 0 7 (dk_at dksX4_findAll_7 19 rfl rfl)
theorem dX4_findAll_186 : decode cX4_findAll 186 = .ok (.iconst 0, 1) := dk_3 (dk_at dksX4_findAll_7 22 rfl rfl)
theorem dX4_findAll_187 : decode cX4_findAll 187 = .ok (.goto 4, 3) := dk_167 0 4 (dk_at dksX4_findAll_8 0 rfl rfl)
theorem dX4_findAll_190 : decode cX4_findAll 190 = .ok (.iconst 1, 1) := dk_4 (dk_at dksX4_findAll_8 3 rfl rfl)
theorem dX4_findAll_191 : decode cX4_findAll 191 = .ok (.iastore, 1) := dk_79 (dk_at dksX4_findAll_8 4 rfl rfl)
theorem dX4_findAll_192 : decode cX4_findAll 192 = .ok (.iinc 1 1, 3) := dk_132 1 1 (dk_at dksX4_findAll_8 5 rfl rfl)
theorem dX4_findAll_195 : decode cX4_findAll 195 = .ok (.goto (-102), 3) := dk_167 255 154 (dk_at dksX4_findAll_8 8 rfl rfl)
theorem dX4_findAll_198 : decode cX4_findAll 198 = .ok (.aload_n 0, 1) := dk_42 (dk_at dksX4_findAll_8 11 rfl rfl)
theorem dX4_findAll_199 : decode cX4_findAll 199 = .ok (.iconst 0, 1) := dk_3 (dk_at dksX4_findAll_8 12 rfl rfl)
theorem dX4_findAll_200 : decode cX4_findAll 200 = .ok (.putfield 422, 3) := dk_181 1 166 (dk_at dksX4_findAll_8 13 rfl rfl)
theorem dX4_findAll_203 : decode cX4_findAll 203 = .ok (.iconst 0, 1) := dk_3 (dk_at dksX4_findAll_8 16 rfl rfl)
theorem dX4_findAll_204 : decode cX4_findAll 204 = .ok (.istore_n 1, 1) := dk_60 (dk_at dksX4_findAll_8 17 rfl rfl)
theorem dX4_findAll_205 : decode cX4_findAll 205 = .ok (.iload_n 1, 1) := dk_27 (dk_at dksX4_findAll_8 18 rfl rfl)
theorem dX4_findAll_206 : decode cX4_findAll 206 = .ok (.aload_n 0, 1) := dk_42 (dk_at dksX4_findAll_8 19 rfl rfl)
theorem dX4_findAll_207 : decode cX4_findAll 207 = .ok (.getfield 400, 3) := dk_180 1 144 (dk_at dksX4_findAll_8 20 rfl rfl)
theorem dX4_findAll_210 : decode cX4_findAll 210 = .ok (.if_icmp .ge 127, 3) := dk_162 0 127 (dk_at dksX4_findAll_9 0 rfl rfl)
theorem dX4_findAll_213 : decode cX4_findAll 213 = .ok (.iconst 1, 1) := dk_4 (dk_at dksX4_findAll_9 3 rfl rfl)
theorem dX4_findAll_214 : decode cX4_findAll 214 = .ok (.istore_n 2, 1) := dk_61 (dk_at dksX4_findAll_9 4 rfl rfl)
theorem dX4_findAll_215 : decode cX4_findAll 215 = .ok (.iconst 0, 1) := dk_3 (dk_at dksX4_findAll_9 5 rfl rfl)
theorem dX4_findAll_216 : decode cX4_findAll 216 = .ok (.istore_n 3, 1) := dk_62 (dk_at dksX4_findAll_9 6 rfl rfl)
theorem dX4_findAll_217 : decode cX4_findAll 217 = .ok (.iload_n 3, 1) := dk_29 (dk_at dksX4_findAll_9 7 rfl rfl)
theorem dX4_findAll_218 : decode cX4_findAll 218 = .ok (.iload_n 1, 1) := dk_27 (dk_at dksX4_findAll_9 8 rfl rfl)
theorem dX4_findAll_219 : decode cX4_findAll 219 = .ok (.if_icmp .ge 69, 3) := dk_162 0 69 (dk_at dksX4_findAll_9 9 rfl rfl)
theorem dX4_findAll_222 : decode cX4_findAll 222 = .ok (.iload_n 2, 1) := dk_28 (dk_at dksX4_findAll_9 12 rfl rfl)
theorem dX4_findAll_223 : decode cX4_findAll 223 = .ok (.ifCond .eq 57, 3) := dk_153 0 57 (dk_at dksX4_findAll_9 13 rfl rfl)
theorem dX4_findAll_226 : decode cX4_findAll 226 = .ok (.aload_n 0, 1) := dk_42 (dk_at dksX4_findAll_9 16 rfl rfl)
theorem dX4_findAll_227 : decode cX4_findAll 227 = .ok (.getfield 137, 3) := dk_180 0 137 (dk_at dksX4_findAll_9 17 rfl rfl)
theorem dX4_findAll_230 : decode cX4_findAll 230 = .ok (.aload_n 0, 1) := dk_42 (dk_at dksX4_findAll_9 20 rfl rfl)
theorem dX4_findAll_231 : decode cX4_findAll 231 = .ok (.getfield 167, 3) := dk_180 0 167 (dk_at dksX4_findAll_9 21 rfl rfl)
theorem dX4_findAll_234 : decode cX4_findAll 234 = .ok (.iload_n 3, 1) := dk_29 (dk_at dksX4_findAll_10 0 rfl rfl)
theorem dX4_findAll_235 : decode cX4_findAll 235 = .ok (.iaload, 1) := dk_46 (dk_at dksX4_findAll_10 1 rfl rfl)
theorem dX4_findAll_236 : decode cX4_findAll 236 = .ok (.iaload, 1) := dk_46 (dk_at dksX4_findAll_10 2 rfl rfl)
theorem dX4_findAll_237 : decode cX4_findAll 237 = .ok (.aload_n 0, 1) := dk_42 (dk_at dksX4_findAll_10 3 rfl rfl)
theorem dX4_findAll_238 : decode cX4_findAll 238 = .ok (.getfield 137, 3) := dk_180 0 137 (dk_at dksX4_findAll_10 4 rfl rfl)
theorem dX4_findAll_241 : decode cX4_findAll 241 = .ok (.aload_n 0, 1) := dk_42 (dk_at dksX4_findAll_10 7 rfl rfl)
theorem dX4_findAll_242 : decode cX4_findAll 242 = .ok (.getfield 167, 3) := dk_180 0 167 (dk_at dksX4_findAll_10 8 rfl rfl)
theorem dX4_findAll_245 : decode cX4_findAll 245 = .ok (.iload_n 1, 1) := dk_27 (dk_at dksX4_findAll_10 11 rfl rfl)
theorem dX4_findAll_246 : decode cX4_findAll 246 = .ok (.iaload, 1) := dk_46 (dk_at dksX4_findAll_10 12 rfl rfl)
theorem dX4_findAll_247 : decode cX4_findAll 247 = .ok (.iaload, 1) := dk_46 (dk_at dksX4_findAll_10 13 rfl rfl)
theorem dX4_findAll_248 : decode cX4_findAll 248 = .ok (.if_icmp .ne 28, 3) := dk_160 0 28 (dk_at dksX4_findAll_10 14 rfl rfl)
theorem dX4_findAll_251 : decode cX4_findAll 251 = .ok (.aload_n 0, 1) := dk_42 (dk_at dksX4_findAll_10 17 rfl rfl)
theorem dX4_findAll_252 : decode cX4_findAll 252 = .ok (.getfield 140, 3) := dk_180 0 140 (dk_at dksX4_findAll_10 18 rfl rfl)
theorem dX4_findAll_255 : decode cX4_findAll 255 = .ok (.aload_n 0, 1) := dk_42 (dk_at dksX4_findAll_10 21 rfl rfl)
theorem dX4_findAll_256 : decode cX4_findAll 256 = .ok (.getfield 167, 3) := dk_180 0 167 (dk_at dksX4_findAll_11 0 rfl rfl)
theorem dX4_findAll_259 : decode cX4_findAll 259 = .ok (.iload_n 3, 1) := dk_29 (dk_at dksX4_findAll_11 3 rfl rfl)
theorem dX4_findAll_260 : decode cX4_findAll 260 = .ok (.iaload, 1) := dk_46 (dk_at dksX4_findAll_11 4 rfl rfl)
theorem dX4_findAll_261 : decode cX4_findAll 261 = .ok (.iaload, 1) := dk_46 (dk_at dksX4_findAll_11 5 rfl rfl)
theorem dX4_findAll_262 : decode cX4_findAll 262 = .ok (.aload_n 0, 1) := dk_42 (dk_at dksX4_findAll_11 6 rfl rfl)
theorem dX4_findAll_263 : decode cX4_findAll 263 = .ok (.getfield 140, 3) := dk_180 0 140 (dk_at dksX4_findAll_11 7 rfl rfl)
theorem dX4_findAll_266 : decode cX4_findAll 266 = .ok (.aload_n 0, 1) := dk_42 (dk_at dksX4_findAll_11 10 rfl rfl)
theorem dX4_findAll_267 : decode cX4_findAll 267 = .ok (.getfield 167, 3) := dk_180 0 167 (dk_at dksX4_findAll_11 11 rfl rfl)
theorem dX4_findAll_270 : decode cX4_findAll 270 = .ok (.iload_n 1, 1) := dk_27 (dk_at dksX4_findAll_11 14 rfl rfl)
theorem dX4_findAll_271 : decode cX4_findAll 271 = .ok (.iaload, 1) := dk_46 (dk_at dksX4_findAll_11 15 rfl rfl)
theorem dX4_findAll_272 : decode cX4_findAll 272 = .ok (.iaload, 1) := dk_46 (dk_at dksX4_findAll_11 16 rfl rfl)
theorem dX4_findAll_273 : decode cX4_findAll 273 = .ok (.if_icmp .eq 7, 3) := dk_159 0 7 (dk_at dksX4_findAll_11 17 rfl rfl)
theorem dX4_findAll_276 : decode cX4_findAll 276 = .ok (.iconst 1, 1) := dk_4 (dk_at dksX4_findAll_11 20 rfl rfl)
theorem dX4_findAll_277 : decode cX4_findAll 277 = .ok (.goto 4, 3) := dk_167 0 4 (dk_at dksX4_findAll_11 21 rfl rfl)
theorem dX4_findAll_280 : decode cX4_findAll 280 = .ok (.iconst 0, 1) := dk_3 (dk_at dksX4_findAll_12 0 rfl rfl)
theorem dX4_findAll_281 : decode cX4_findAll 281 = .ok (.istore_n 2, 1) := dk_61 (dk_at dksX4_findAll_12 1 rfl rfl)
theorem dX4_findAll_282 : decode cX4_findAll 282 = .ok (.iinc 3 1, 3) := dk_132 3 1 (dk_at dksX4_findAll_12 2 rfl rfl)
theorem dX4_findAll_285 : decode cX4_findAll 285 = .ok (.goto (-68), 3) := dk_167 255 188 (dk_at dksX4_findAll_12 5 rfl rfl)
theorem dX4_findAll_288 : decode cX4_findAll 288 = .ok (.iload_n 2, 1) := dk_28 (dk_at dksX4_findAll_12 8 rfl rfl)
theorem dX4_findAll_289 : decode cX4_findAll 289 = .ok (.ifCond .eq 42, 3) := dk_153 0 42 (dk_at dksX4_findAll_12 9 rfl rfl)
theorem dX4_findAll_292 : decode cX4_findAll 292 = .ok (.aload_n 0, 1) := dk_42 (dk_at dksX4_findAll_12 12 rfl rfl)
theorem dX4_findAll_293 : decode cX4_findAll 293 = .ok (.aload_n 0, 1) := dk_42 (dk_at dksX4_findAll_12 13 rfl rfl)
theorem dX4_findAll_294 : decode cX4_findAll 294 = .ok (.getfield 137, 3) := dk_180 0 137 (dk_at dksX4_findAll_12 14 rfl rfl)
theorem dX4_findAll_297 : decode cX4_findAll 297 = .ok (.aload_n 0, 1) := dk_42 (dk_at dksX4_findAll_12 17 rfl rfl)
theorem dX4_findAll_298 : decode cX4_findAll 298 = .ok (.getfield 167, 3) := dk_180 0 167 (dk_at dksX4_findAll_12 18 rfl rfl)
theorem dX4_findAll_301 : decode cX4_findAll 301 = .ok (.iload_n 1, 1) := dk_27 (dk_at dksX4_findAll_12 21 rfl rfl)
theorem dX4_findAll_302 : decode cX4_findAll 302 = .ok (.iaload, 1) := dk_46 (dk_at dksX4_findAll_12 22 rfl rfl)
theorem dX4_findAll_303 : decode cX4_findAll 303 = .ok (.iaload, 1) := dk_46 (dk_at dksX4_findAll_12 23 rfl rfl)
theorem dX4_findAll_304 : decode cX4_findAll 304 = .ok (.aload_n 0, 1) := dk_42 (dk_at dksX4_findAll_13 0 rfl rfl)
theorem dX4_findAll_305 : decode cX4_findAll 305 = .ok (.getfield 140, 3) := dk_180 0 140 (dk_at dksX4_findAll_13 1 rfl rfl)
theorem dX4_findAll_308 : decode cX4_findAll 308 = .ok (.aload_n 0, 1) := dk_42 (dk_at dksX4_findAll_13 4 rfl rfl)
theorem dX4_findAll_309 : decode cX4_findAll 309 = .ok (.getfield 167, 3) := dk_180 0 167 (dk_at dksX4_findAll_13 5 rfl rfl)
theorem dX4_findAll_312 : decode cX4_findAll 312 = .ok (.iload_n 1, 1) := dk_27 (dk_at dksX4_findAll_13 8 rfl rfl)
theorem dX4_findAll_313 : decode cX4_findAll 313 = .ok (.iaload, 1) := dk_46 (dk_at dksX4_findAll_13 9 rfl rfl)
theorem dX4_findAll_314 : decode cX4_findAll 314 = .ok (.iaload, 1) := dk_46 (dk_at dksX4_findAll_13 10 rfl rfl)
theorem dX4_findAll_315 : decode cX4_findAll 315 = .ok (.invokevirtual 425, 3) := dk_182 1 169 (dk_at dksX4_findAll_13 11 rfl rfl)
theorem dX4_findAll_318 : decode cX4_findAll 318 = .ok (.aload_n 0, 1) := dk_42 (dk_at dksX4_findAll_13 14 rfl rfl)
theorem dX4_findAll_319 : decode cX4_findAll 319 = .ok (.dup, 1) := dk_89 (dk_at dksX4_findAll_13 15 rfl rfl)
theorem dX4_findAll_320 : decode cX4_findAll 320 = .ok (.getfield 422, 3) := dk_180 1 166 (dk_at dksX4_findAll_13 16 rfl rfl)
theorem dX4_findAll_323 : decode cX4_findAll 323 = .ok (.aload_n 0, 1) := dk_42 (dk_at dksX4_findAll_13 19 rfl rfl)
theorem dX4_findAll_324 : decode cX4_findAll 324 = .ok (.getfield 428, 3) := dk_180 1 172 (dk_at dksX4_findAll_13 20 rfl rfl)
theorem dX4_findAll_327 : decode cX4_findAll 327 = .ok (.iadd, 1) := dk_96 (dk_at dksX4_findAll_13 23 rfl rfl)
theorem dX4_findAll_328 : decode cX4_findAll 328 = .ok (.putfield 422, 3) := dk_181 1 166 (dk_at dksX4_findAll_14 0 rfl rfl)
theorem dX4_findAll_331 : decode cX4_findAll 331 = .ok (.iinc 1 1, 3) := dk_132 1 1 (dk_at dksX4_findAll_14 3 rfl rfl)
theorem dX4_findAll_334 : decode cX4_findAll 334 = .ok (.goto (-129), 3) := dk_167 255 127 (dk_at dksX4_findAll_14 6 rfl rfl)
theorem dX4_findAll_337 : decode cX4_findAll 337 = .ok (.return_, 1) := dk_177 (dk_at dksX4_findAll_14 9 rfl rfl)
abbrev cX4_isAhead : ByteArray := prog_21_method_53_code
def yX4_isAhead : MethodName := ⟨RX4, "isAhead", "(II)Z"⟩
def dkwX4_isAhead_2 : List UInt8 := [28, 162, 0, 7, 4, 167, 0, 4, 3, 172]
abbrev dktX4_isAhead_2 : List UInt8 := dkwX4_isAhead_2 ++ []
def dkwX4_isAhead_1 : List UInt8 := [28, 46, 100, 54, 4, 29, 155, 0, 22, 29, 154, 0, 22, 21, 4, 155, 0, 13, 21, 4, 154, 0, 12, 27]
abbrev dktX4_isAhead_1 : List UInt8 := dkwX4_isAhead_1 ++ dktX4_isAhead_2
def dkwX4_isAhead_0 : List UInt8 := [42, 180, 0, 140, 27, 46, 42, 180, 0, 140, 28, 46, 100, 62, 42, 180, 0, 143, 27, 46, 42, 180, 0, 143]
abbrev dktX4_isAhead_0 : List UInt8 := dkwX4_isAhead_0 ++ dktX4_isAhead_1
theorem dksX4_isAhead_0 : cX4_isAhead.data.toList.drop 0 = dktX4_isAhead_0 := by decide +kernel
theorem dksX4_isAhead_1 : cX4_isAhead.data.toList.drop 24 = dktX4_isAhead_1 := dk_seg dksX4_isAhead_0 24 rfl rfl
theorem dksX4_isAhead_2 : cX4_isAhead.data.toList.drop 48 = dktX4_isAhead_2 := dk_seg dksX4_isAhead_1 24 rfl rfl
theorem dX4_isAhead_0 : decode cX4_isAhead 0 = .ok (.aload_n 0, 1) := dk_42 (dk_at dksX4_isAhead_0 0 rfl rfl)
theorem dX4_isAhead_1 : decode cX4_isAhead 1 = .ok (.getfield 140, 3) := dk_180 0 140 (dk_at dksX4_isAhead_0 1 rfl rfl)
theorem dX4_isAhead_4 : decode cX4_isAhead 4 = .ok (.iload_n 1, 1) := dk_27 (dk_at dksX4_isAhead_0 4 rfl rfl)
theorem dX4_isAhead_5 : decode cX4_isAhead 5 = .ok (.iaload, 1) := dk_46 (dk_at dksX4_isAhead_0 5 rfl rfl)
theorem dX4_isAhead_6 : decode cX4_isAhead 6 = .ok (.aload_n 0, 1) := dk_42 (dk_at dksX4_isAhead_0 6 rfl rfl)
theorem dX4_isAhead_7 : decode cX4_isAhead 7 = .ok (.getfield 140, 3) := dk_180 0 140 (dk_at dksX4_isAhead_0 7 rfl rfl)
theorem dX4_isAhead_10 : decode cX4_isAhead 10 = .ok (.iload_n 2, 1) := dk_28 (dk_at dksX4_isAhead_0 10 rfl rfl)
theorem dX4_isAhead_11 : decode cX4_isAhead 11 = .ok (.iaload, 1) := dk_46 (dk_at dksX4_isAhead_0 11 rfl rfl)
theorem dX4_isAhead_12 : decode cX4_isAhead 12 = .ok (.isub, 1) := dk_100 (dk_at dksX4_isAhead_0 12 rfl rfl)
theorem dX4_isAhead_13 : decode cX4_isAhead 13 = .ok (.istore_n 3, 1) := dk_62 (dk_at dksX4_isAhead_0 13 rfl rfl)
theorem dX4_isAhead_14 : decode cX4_isAhead 14 = .ok (.aload_n 0, 1) := dk_42 (dk_at dksX4_isAhead_0 14 rfl rfl)
theorem dX4_isAhead_15 : decode cX4_isAhead 15 = .ok (.getfield 143, 3) := dk_180 0 143 (dk_at dksX4_isAhead_0 15 rfl rfl)
theorem dX4_isAhead_18 : decode cX4_isAhead 18 = .ok (.iload_n 1, 1) := dk_27 (dk_at dksX4_isAhead_0 18 rfl rfl)
theorem dX4_isAhead_19 : decode cX4_isAhead 19 = .ok (.iaload, 1) := dk_46 (dk_at dksX4_isAhead_0 19 rfl rfl)
theorem dX4_isAhead_20 : decode cX4_isAhead 20 = .ok (.aload_n 0, 1) := dk_42 (dk_at dksX4_isAhead_0 20 rfl rfl)
theorem dX4_isAhead_21 : decode cX4_isAhead 21 = .ok (.getfield 143, 3) := dk_180 0 143 (dk_at dksX4_isAhead_0 21 rfl rfl)
theorem dX4_isAhead_24 : decode cX4_isAhead 24 = .ok (.iload_n 2, 1) := dk_28 (dk_at dksX4_isAhead_1 0 rfl rfl)
theorem dX4_isAhead_25 : decode cX4_isAhead 25 = .ok (.iaload, 1) := dk_46 (dk_at dksX4_isAhead_1 1 rfl rfl)
theorem dX4_isAhead_26 : decode cX4_isAhead 26 = .ok (.isub, 1) := dk_100 (dk_at dksX4_isAhead_1 2 rfl rfl)
theorem dX4_isAhead_27 : decode cX4_isAhead 27 = .ok (.istore 4, 2) := dk_54 4 (dk_at dksX4_isAhead_1 3 rfl rfl)
theorem dX4_isAhead_29 : decode cX4_isAhead 29 = .ok (.iload_n 3, 1) := dk_29 (dk_at dksX4_isAhead_1 5 rfl rfl)
theorem dX4_isAhead_30 : decode cX4_isAhead 30 = .ok (.ifCond .lt 22, 3) := dk_155 0 22 (dk_at dksX4_isAhead_1 6 rfl rfl)
theorem dX4_isAhead_33 : decode cX4_isAhead 33 = .ok (.iload_n 3, 1) := dk_29 (dk_at dksX4_isAhead_1 9 rfl rfl)
theorem dX4_isAhead_34 : decode cX4_isAhead 34 = .ok (.ifCond .ne 22, 3) := dk_154 0 22 (dk_at dksX4_isAhead_1 10 rfl rfl)
theorem dX4_isAhead_37 : decode cX4_isAhead 37 = .ok (.iload 4, 2) := dk_21 4 (dk_at dksX4_isAhead_1 13 rfl rfl)
theorem dX4_isAhead_39 : decode cX4_isAhead 39 = .ok (.ifCond .lt 13, 3) := dk_155 0 13 (dk_at dksX4_isAhead_1 15 rfl rfl)
theorem dX4_isAhead_42 : decode cX4_isAhead 42 = .ok (.iload 4, 2) := dk_21 4 (dk_at dksX4_isAhead_1 18 rfl rfl)
theorem dX4_isAhead_44 : decode cX4_isAhead 44 = .ok (.ifCond .ne 12, 3) := dk_154 0 12 (dk_at dksX4_isAhead_1 20 rfl rfl)
theorem dX4_isAhead_47 : decode cX4_isAhead 47 = .ok (.iload_n 1, 1) := dk_27 (dk_at dksX4_isAhead_1 23 rfl rfl)
theorem dX4_isAhead_48 : decode cX4_isAhead 48 = .ok (.iload_n 2, 1) := dk_28 (dk_at dksX4_isAhead_2 0 rfl rfl)
theorem dX4_isAhead_49 : decode cX4_isAhead 49 = .ok (.if_icmp .ge 7, 3) := dk_162 0 7 (dk_at dksX4_isAhead_2 1 rfl rfl)
theorem dX4_isAhead_52 : decode cX4_isAhead 52 = .ok (.iconst 1, 1) := dk_4 (dk_at dksX4_isAhead_2 4 rfl rfl)
theorem dX4_isAhead_53 : decode cX4_isAhead 53 = .ok (.goto 4, 3) := dk_167 0 4 (dk_at dksX4_isAhead_2 5 rfl rfl)
theorem dX4_isAhead_56 : decode cX4_isAhead 56 = .ok (.iconst 0, 1) := dk_3 (dk_at dksX4_isAhead_2 8 rfl rfl)
theorem dX4_isAhead_57 : decode cX4_isAhead 57 = .ok (.ireturn, 1) := dk_172 (dk_at dksX4_isAhead_2 9 rfl rfl)
abbrev cX4_latest : ByteArray := prog_21_method_55_code
def yX4_latest : MethodName := ⟨RX4, "latest", "(II)I"⟩
def dkwX4_latest_3 : List UInt8 := [153, 0, 8, 21, 4, 167, 0, 4, 29, 62, 132, 4, 1, 167, 255, 177, 29, 172]
abbrev dktX4_latest_3 : List UInt8 := dkwX4_latest_3 ++ []
def dkwX4_latest_2 : List UInt8 := [4, 167, 0, 4, 3, 54, 5, 21, 5, 153, 0, 22, 29, 155, 0, 13, 42, 29, 21, 4, 182, 1, 141]
abbrev dktX4_latest_2 : List UInt8 := dkwX4_latest_2 ++ dktX4_latest_3
def dkwX4_latest_1 : List UInt8 := [180, 0, 134, 21, 4, 46, 27, 160, 0, 21, 28, 155, 0, 13, 42, 21, 4, 28, 182, 1, 141, 153, 0, 7]
abbrev dktX4_latest_1 : List UInt8 := dkwX4_latest_1 ++ dktX4_latest_2
def dkwX4_latest_0 : List UInt8 := [2, 62, 3, 54, 4, 21, 4, 42, 180, 1, 116, 162, 0, 76, 42, 21, 4, 182, 1, 138, 153, 0, 32, 42]
abbrev dktX4_latest_0 : List UInt8 := dkwX4_latest_0 ++ dktX4_latest_1
theorem dksX4_latest_0 : cX4_latest.data.toList.drop 0 = dktX4_latest_0 := by decide +kernel
theorem dksX4_latest_1 : cX4_latest.data.toList.drop 24 = dktX4_latest_1 := dk_seg dksX4_latest_0 24 rfl rfl
theorem dksX4_latest_2 : cX4_latest.data.toList.drop 48 = dktX4_latest_2 := dk_seg dksX4_latest_1 24 rfl rfl
theorem dksX4_latest_3 : cX4_latest.data.toList.drop 71 = dktX4_latest_3 := dk_seg dksX4_latest_2 23 rfl rfl
theorem dX4_latest_0 : decode cX4_latest 0 = .ok (.iconst (-1), 1) := dk_2 (dk_at dksX4_latest_0 0 rfl rfl)
theorem dX4_latest_1 : decode cX4_latest 1 = .ok (.istore_n 3, 1) := dk_62 (dk_at dksX4_latest_0 1 rfl rfl)
theorem dX4_latest_2 : decode cX4_latest 2 = .ok (.iconst 0, 1) := dk_3 (dk_at dksX4_latest_0 2 rfl rfl)
theorem dX4_latest_3 : decode cX4_latest 3 = .ok (.istore 4, 2) := dk_54 4 (dk_at dksX4_latest_0 3 rfl rfl)
theorem dX4_latest_5 : decode cX4_latest 5 = .ok (.iload 4, 2) := dk_21 4 (dk_at dksX4_latest_0 5 rfl rfl)
theorem dX4_latest_7 : decode cX4_latest 7 = .ok (.aload_n 0, 1) := dk_42 (dk_at dksX4_latest_0 7 rfl rfl)
theorem dX4_latest_8 : decode cX4_latest 8 = .ok (.getfield 372, 3) := dk_180 1 116 (dk_at dksX4_latest_0 8 rfl rfl)
theorem dX4_latest_11 : decode cX4_latest 11 = .ok (.if_icmp .ge 76, 3) := dk_162 0 76 (dk_at dksX4_latest_0 11 rfl rfl)
theorem dX4_latest_14 : decode cX4_latest 14 = .ok (.aload_n 0, 1) := dk_42 (dk_at dksX4_latest_0 14 rfl rfl)
theorem dX4_latest_15 : decode cX4_latest 15 = .ok (.iload 4, 2) := dk_21 4 (dk_at dksX4_latest_0 15 rfl rfl)
theorem dX4_latest_17 : decode cX4_latest 17 = .ok (.invokevirtual 394, 3) := dk_182 1 138 (dk_at dksX4_latest_0 17 rfl rfl)
theorem dX4_latest_20 : decode cX4_latest 20 = .ok (.ifCond .eq 32, 3) := dk_153 0 32 (dk_at dksX4_latest_0 20 rfl rfl)
theorem dX4_latest_23 : decode cX4_latest 23 = .ok (.aload_n 0, 1) := dk_42 (dk_at dksX4_latest_0 23 rfl rfl)
theorem dX4_latest_24 : decode cX4_latest 24 = .ok (.getfield 134, 3) := dk_180 0 134 (dk_at dksX4_latest_1 0 rfl rfl)
theorem dX4_latest_27 : decode cX4_latest 27 = .ok (.iload 4, 2) := dk_21 4 (dk_at dksX4_latest_1 3 rfl rfl)
theorem dX4_latest_29 : decode cX4_latest 29 = .ok (.iaload, 1) := dk_46 (dk_at dksX4_latest_1 5 rfl rfl)
theorem dX4_latest_30 : decode cX4_latest 30 = .ok (.iload_n 1, 1) := dk_27 (dk_at dksX4_latest_1 6 rfl rfl)
theorem dX4_latest_31 : decode cX4_latest 31 = .ok (.if_icmp .ne 21, 3) := dk_160 0 21 (dk_at dksX4_latest_1 7 rfl rfl)
theorem dX4_latest_34 : decode cX4_latest 34 = .ok (.iload_n 2, 1) := dk_28 (dk_at dksX4_latest_1 10 rfl rfl)
theorem dX4_latest_35 : decode cX4_latest 35 = .ok (.ifCond .lt 13, 3) := dk_155 0 13 (dk_at dksX4_latest_1 11 rfl rfl)
theorem dX4_latest_38 : decode cX4_latest 38 = .ok (.aload_n 0, 1) := dk_42 (dk_at dksX4_latest_1 14 rfl rfl)
theorem dX4_latest_39 : decode cX4_latest 39 = .ok (.iload 4, 2) := dk_21 4 (dk_at dksX4_latest_1 15 rfl rfl)
theorem dX4_latest_41 : decode cX4_latest 41 = .ok (.iload_n 2, 1) := dk_28 (dk_at dksX4_latest_1 17 rfl rfl)
theorem dX4_latest_42 : decode cX4_latest 42 = .ok (.invokevirtual 397, 3) := dk_182 1 141 (dk_at dksX4_latest_1 18 rfl rfl)
theorem dX4_latest_45 : decode cX4_latest 45 = .ok (.ifCond .eq 7, 3) := dk_153 0 7 (dk_at dksX4_latest_1 21 rfl rfl)
theorem dX4_latest_48 : decode cX4_latest 48 = .ok (.iconst 1, 1) := dk_4 (dk_at dksX4_latest_2 0 rfl rfl)
theorem dX4_latest_49 : decode cX4_latest 49 = .ok (.goto 4, 3) := dk_167 0 4 (dk_at dksX4_latest_2 1 rfl rfl)
theorem dX4_latest_52 : decode cX4_latest 52 = .ok (.iconst 0, 1) := dk_3 (dk_at dksX4_latest_2 4 rfl rfl)
theorem dX4_latest_53 : decode cX4_latest 53 = .ok (.istore 5, 2) := dk_54 5 (dk_at dksX4_latest_2 5 rfl rfl)
theorem dX4_latest_55 : decode cX4_latest 55 = .ok (.iload 5, 2) := dk_21 5 (dk_at dksX4_latest_2 7 rfl rfl)
theorem dX4_latest_57 : decode cX4_latest 57 = .ok (.ifCond .eq 22, 3) := dk_153 0 22 (dk_at dksX4_latest_2 9 rfl rfl)
theorem dX4_latest_60 : decode cX4_latest 60 = .ok (.iload_n 3, 1) := dk_29 (dk_at dksX4_latest_2 12 rfl rfl)
theorem dX4_latest_61 : decode cX4_latest 61 = .ok (.ifCond .lt 13, 3) := dk_155 0 13 (dk_at dksX4_latest_2 13 rfl rfl)
theorem dX4_latest_64 : decode cX4_latest 64 = .ok (.aload_n 0, 1) := dk_42 (dk_at dksX4_latest_2 16 rfl rfl)
theorem dX4_latest_65 : decode cX4_latest 65 = .ok (.iload_n 3, 1) := dk_29 (dk_at dksX4_latest_2 17 rfl rfl)
theorem dX4_latest_66 : decode cX4_latest 66 = .ok (.iload 4, 2) := dk_21 4 (dk_at dksX4_latest_2 18 rfl rfl)
theorem dX4_latest_68 : decode cX4_latest 68 = .ok (.invokevirtual 397, 3) := dk_182 1 141 (dk_at dksX4_latest_2 20 rfl rfl)
theorem dX4_latest_71 : decode cX4_latest 71 = .ok (.ifCond .eq 8, 3) := dk_153 0 8 (dk_at dksX4_latest_3 0 rfl rfl)
theorem dX4_latest_74 : decode cX4_latest 74 = .ok (.iload 4, 2) := dk_21 4 (dk_at dksX4_latest_3 3 rfl rfl)
theorem dX4_latest_76 : decode cX4_latest 76 = .ok (.goto 4, 3) := dk_167 0 4 (dk_at dksX4_latest_3 5 rfl rfl)
theorem dX4_latest_79 : decode cX4_latest 79 = .ok (.iload_n 3, 1) := dk_29 (dk_at dksX4_latest_3 8 rfl rfl)
theorem dX4_latest_80 : decode cX4_latest 80 = .ok (.istore_n 3, 1) := dk_62 (dk_at dksX4_latest_3 9 rfl rfl)
theorem dX4_latest_81 : decode cX4_latest 81 = .ok (.iinc 4 1, 3) := dk_132 4 1 (dk_at dksX4_latest_3 10 rfl rfl)
theorem dX4_latest_84 : decode cX4_latest 84 = .ok (.goto (-79), 3) := dk_167 255 177 (dk_at dksX4_latest_3 13 rfl rfl)
theorem dX4_latest_87 : decode cX4_latest 87 = .ok (.iload_n 3, 1) := dk_29 (dk_at dksX4_latest_3 16 rfl rfl)
theorem dX4_latest_88 : decode cX4_latest 88 = .ok (.ireturn, 1) := dk_172 (dk_at dksX4_latest_3 17 rfl rfl)
abbrev cX4_formNow : ByteArray := prog_21_method_50_code
def yX4_formNow : MethodName := ⟨RX4, "formNow", "(I)I"⟩
def dkwX4_formNow_2 : List UInt8 := [120, 130, 167, 0, 4, 28, 61, 132, 3, 1, 167, 255, 207, 28, 172]
abbrev dktX4_formNow_2 : List UInt8 := dkwX4_formNow_2 ++ []
def dkwX4_formNow_1 : List UInt8 := [160, 0, 29, 42, 180, 0, 164, 29, 46, 42, 182, 1, 132, 163, 0, 16, 28, 4, 42, 180, 0, 161, 29, 46]
abbrev dktX4_formNow_1 : List UInt8 := dkwX4_formNow_1 ++ dktX4_formNow_2
def dkwX4_formNow_0 : List UInt8 := [42, 180, 0, 149, 27, 46, 61, 3, 62, 29, 42, 180, 1, 129, 162, 0, 47, 42, 180, 0, 158, 29, 46, 27]
abbrev dktX4_formNow_0 : List UInt8 := dkwX4_formNow_0 ++ dktX4_formNow_1
theorem dksX4_formNow_0 : cX4_formNow.data.toList.drop 0 = dktX4_formNow_0 := by decide +kernel
theorem dksX4_formNow_1 : cX4_formNow.data.toList.drop 24 = dktX4_formNow_1 := dk_seg dksX4_formNow_0 24 rfl rfl
theorem dksX4_formNow_2 : cX4_formNow.data.toList.drop 48 = dktX4_formNow_2 := dk_seg dksX4_formNow_1 24 rfl rfl
theorem dX4_formNow_0 : decode cX4_formNow 0 = .ok (.aload_n 0, 1) := dk_42 (dk_at dksX4_formNow_0 0 rfl rfl)
theorem dX4_formNow_1 : decode cX4_formNow 1 = .ok (.getfield 149, 3) := dk_180 0 149 (dk_at dksX4_formNow_0 1 rfl rfl)
theorem dX4_formNow_4 : decode cX4_formNow 4 = .ok (.iload_n 1, 1) := dk_27 (dk_at dksX4_formNow_0 4 rfl rfl)
theorem dX4_formNow_5 : decode cX4_formNow 5 = .ok (.iaload, 1) := dk_46 (dk_at dksX4_formNow_0 5 rfl rfl)
theorem dX4_formNow_6 : decode cX4_formNow 6 = .ok (.istore_n 2, 1) := dk_61 (dk_at dksX4_formNow_0 6 rfl rfl)
theorem dX4_formNow_7 : decode cX4_formNow 7 = .ok (.iconst 0, 1) := dk_3 (dk_at dksX4_formNow_0 7 rfl rfl)
theorem dX4_formNow_8 : decode cX4_formNow 8 = .ok (.istore_n 3, 1) := dk_62 (dk_at dksX4_formNow_0 8 rfl rfl)
theorem dX4_formNow_9 : decode cX4_formNow 9 = .ok (.iload_n 3, 1) := dk_29 (dk_at dksX4_formNow_0 9 rfl rfl)
theorem dX4_formNow_10 : decode cX4_formNow 10 = .ok (.aload_n 0, 1) := dk_42 (dk_at dksX4_formNow_0 10 rfl rfl)
theorem dX4_formNow_11 : decode cX4_formNow 11 = .ok (.getfield 385, 3) := dk_180 1 129 (dk_at dksX4_formNow_0 11 rfl rfl)
theorem dX4_formNow_14 : decode cX4_formNow 14 = .ok (.if_icmp .ge 47, 3) := dk_162 0 47 (dk_at dksX4_formNow_0 14 rfl rfl)
theorem dX4_formNow_17 : decode cX4_formNow 17 = .ok (.aload_n 0, 1) := dk_42 (dk_at dksX4_formNow_0 17 rfl rfl)
theorem dX4_formNow_18 : decode cX4_formNow 18 = .ok (.getfield 158, 3) := dk_180 0 158 (dk_at dksX4_formNow_0 18 rfl rfl)
theorem dX4_formNow_21 : decode cX4_formNow 21 = .ok (.iload_n 3, 1) := dk_29 (dk_at dksX4_formNow_0 21 rfl rfl)
theorem dX4_formNow_22 : decode cX4_formNow 22 = .ok (.iaload, 1) := dk_46 (dk_at dksX4_formNow_0 22 rfl rfl)
theorem dX4_formNow_23 : decode cX4_formNow 23 = .ok (.iload_n 1, 1) := dk_27 (dk_at dksX4_formNow_0 23 rfl rfl)
theorem dX4_formNow_24 : decode cX4_formNow 24 = .ok (.if_icmp .ne 29, 3) := dk_160 0 29 (dk_at dksX4_formNow_1 0 rfl rfl)
theorem dX4_formNow_27 : decode cX4_formNow 27 = .ok (.aload_n 0, 1) := dk_42 (dk_at dksX4_formNow_1 3 rfl rfl)
theorem dX4_formNow_28 : decode cX4_formNow 28 = .ok (.getfield 164, 3) := dk_180 0 164 (dk_at dksX4_formNow_1 4 rfl rfl)
theorem dX4_formNow_31 : decode cX4_formNow 31 = .ok (.iload_n 3, 1) := dk_29 (dk_at dksX4_formNow_1 7 rfl rfl)
theorem dX4_formNow_32 : decode cX4_formNow 32 = .ok (.iaload, 1) := dk_46 (dk_at dksX4_formNow_1 8 rfl rfl)
theorem dX4_formNow_33 : decode cX4_formNow 33 = .ok (.aload_n 0, 1) := dk_42 (dk_at dksX4_formNow_1 9 rfl rfl)
theorem dX4_formNow_34 : decode cX4_formNow 34 = .ok (.invokevirtual 388, 3) := dk_182 1 132 (dk_at dksX4_formNow_1 10 rfl rfl)
theorem dX4_formNow_37 : decode cX4_formNow 37 = .ok (.if_icmp .gt 16, 3) := dk_163 0 16 (dk_at dksX4_formNow_1 13 rfl rfl)
theorem dX4_formNow_40 : decode cX4_formNow 40 = .ok (.iload_n 2, 1) := dk_28 (dk_at dksX4_formNow_1 16 rfl rfl)
theorem dX4_formNow_41 : decode cX4_formNow 41 = .ok (.iconst 1, 1) := dk_4 (dk_at dksX4_formNow_1 17 rfl rfl)
theorem dX4_formNow_42 : decode cX4_formNow 42 = .ok (.aload_n 0, 1) := dk_42 (dk_at dksX4_formNow_1 18 rfl rfl)
theorem dX4_formNow_43 : decode cX4_formNow 43 = .ok (.getfield 161, 3) := dk_180 0 161 (dk_at dksX4_formNow_1 19 rfl rfl)
theorem dX4_formNow_46 : decode cX4_formNow 46 = .ok (.iload_n 3, 1) := dk_29 (dk_at dksX4_formNow_1 22 rfl rfl)
theorem dX4_formNow_47 : decode cX4_formNow 47 = .ok (.iaload, 1) := dk_46 (dk_at dksX4_formNow_1 23 rfl rfl)
theorem dX4_formNow_48 : decode cX4_formNow 48 = .ok (.ishl, 1) := dk_120 (dk_at dksX4_formNow_2 0 rfl rfl)
theorem dX4_formNow_49 : decode cX4_formNow 49 = .ok (.ixor, 1) := dk_130 (dk_at dksX4_formNow_2 1 rfl rfl)
theorem dX4_formNow_50 : decode cX4_formNow 50 = .ok (.goto 4, 3) := dk_167 0 4 (dk_at dksX4_formNow_2 2 rfl rfl)
theorem dX4_formNow_53 : decode cX4_formNow 53 = .ok (.iload_n 2, 1) := dk_28 (dk_at dksX4_formNow_2 5 rfl rfl)
theorem dX4_formNow_54 : decode cX4_formNow 54 = .ok (.istore_n 2, 1) := dk_61 (dk_at dksX4_formNow_2 6 rfl rfl)
theorem dX4_formNow_55 : decode cX4_formNow 55 = .ok (.iinc 3 1, 3) := dk_132 3 1 (dk_at dksX4_formNow_2 7 rfl rfl)
theorem dX4_formNow_58 : decode cX4_formNow 58 = .ok (.goto (-49), 3) := dk_167 255 207 (dk_at dksX4_formNow_2 10 rfl rfl)
theorem dX4_formNow_61 : decode cX4_formNow 61 = .ok (.iload_n 2, 1) := dk_28 (dk_at dksX4_formNow_2 13 rfl rfl)
theorem dX4_formNow_62 : decode cX4_formNow 62 = .ok (.ireturn, 1) := dk_172 (dk_at dksX4_formNow_2 14 rfl rfl)
abbrev cX4_tells : ByteArray := prog_21_method_54_code
def yX4_tells : MethodName := ⟨RX4, "tells", "(III)V"⟩
def dkwX4_tells_3 : List UInt8 := [46, 16, 7, 108, 16, 53, 112, 79, 42, 180, 0, 100, 8, 29, 79, 177]
abbrev dktX4_tells_3 : List UInt8 := dkwX4_tells_3 ++ []
def dkwX4_tells_2 : List UInt8 := [180, 0, 152, 27, 46, 156, 0, 7, 3, 167, 0, 4, 4, 79, 42, 180, 0, 100, 7, 42, 180, 0, 140, 27]
abbrev dktX4_tells_2 : List UInt8 := dkwX4_tells_2 ++ dktX4_tells_3
def dkwX4_tells_1 : List UInt8 := [27, 46, 79, 42, 180, 0, 100, 5, 42, 180, 0, 143, 27, 46, 16, 60, 108, 79, 42, 180, 0, 100, 6, 42]
abbrev dktX4_tells_1 : List UInt8 := dkwX4_tells_1 ++ dktX4_tells_2
def dkwX4_tells_0 : List UInt8 := [42, 28, 181, 1, 86, 42, 180, 0, 100, 3, 28, 184, 1, 135, 79, 42, 180, 0, 100, 4, 42, 180, 0, 146]
abbrev dktX4_tells_0 : List UInt8 := dkwX4_tells_0 ++ dktX4_tells_1
theorem dksX4_tells_0 : cX4_tells.data.toList.drop 0 = dktX4_tells_0 := by decide +kernel
theorem dksX4_tells_1 : cX4_tells.data.toList.drop 24 = dktX4_tells_1 := dk_seg dksX4_tells_0 24 rfl rfl
theorem dksX4_tells_2 : cX4_tells.data.toList.drop 48 = dktX4_tells_2 := dk_seg dksX4_tells_1 24 rfl rfl
theorem dksX4_tells_3 : cX4_tells.data.toList.drop 72 = dktX4_tells_3 := dk_seg dksX4_tells_2 24 rfl rfl
theorem dX4_tells_0 : decode cX4_tells 0 = .ok (.aload_n 0, 1) := dk_42 (dk_at dksX4_tells_0 0 rfl rfl)
theorem dX4_tells_1 : decode cX4_tells 1 = .ok (.iload_n 2, 1) := dk_28 (dk_at dksX4_tells_0 1 rfl rfl)
theorem dX4_tells_2 : decode cX4_tells 2 = .ok (.putfield 342, 3) := dk_181 1 86 (dk_at dksX4_tells_0 2 rfl rfl)
theorem dX4_tells_5 : decode cX4_tells 5 = .ok (.aload_n 0, 1) := dk_42 (dk_at dksX4_tells_0 5 rfl rfl)
theorem dX4_tells_6 : decode cX4_tells 6 = .ok (.getfield 100, 3) := dk_180 0 100 (dk_at dksX4_tells_0 6 rfl rfl)
theorem dX4_tells_9 : decode cX4_tells 9 = .ok (.iconst 0, 1) := dk_3 (dk_at dksX4_tells_0 9 rfl rfl)
theorem dX4_tells_10 : decode cX4_tells 10 = .ok (.iload_n 2, 1) := dk_28 (dk_at dksX4_tells_0 10 rfl rfl)
theorem dX4_tells_11 : decode cX4_tells 11 = .ok (.invokestatic 391, 3) := dk_184 1 135 (dk_at dksX4_tells_0 11 rfl rfl)
theorem dX4_tells_14 : decode cX4_tells 14 = .ok (.iastore, 1) := dk_79 (dk_at dksX4_tells_0 14 rfl rfl)
theorem dX4_tells_15 : decode cX4_tells 15 = .ok (.aload_n 0, 1) := dk_42 (dk_at dksX4_tells_0 15 rfl rfl)
theorem dX4_tells_16 : decode cX4_tells 16 = .ok (.getfield 100, 3) := dk_180 0 100 (dk_at dksX4_tells_0 16 rfl rfl)
theorem dX4_tells_19 : decode cX4_tells 19 = .ok (.iconst 1, 1) := dk_4 (dk_at dksX4_tells_0 19 rfl rfl)
theorem dX4_tells_20 : decode cX4_tells 20 = .ok (.aload_n 0, 1) := dk_42 (dk_at dksX4_tells_0 20 rfl rfl)
theorem dX4_tells_21 : decode cX4_tells 21 = .ok (.getfield 146, 3) := dk_180 0 146 (dk_at dksX4_tells_0 21 rfl rfl)
theorem dX4_tells_24 : decode cX4_tells 24 = .ok (.iload_n 1, 1) := dk_27 (dk_at dksX4_tells_1 0 rfl rfl)
theorem dX4_tells_25 : decode cX4_tells 25 = .ok (.iaload, 1) := dk_46 (dk_at dksX4_tells_1 1 rfl rfl)
theorem dX4_tells_26 : decode cX4_tells 26 = .ok (.iastore, 1) := dk_79 (dk_at dksX4_tells_1 2 rfl rfl)
theorem dX4_tells_27 : decode cX4_tells 27 = .ok (.aload_n 0, 1) := dk_42 (dk_at dksX4_tells_1 3 rfl rfl)
theorem dX4_tells_28 : decode cX4_tells 28 = .ok (.getfield 100, 3) := dk_180 0 100 (dk_at dksX4_tells_1 4 rfl rfl)
theorem dX4_tells_31 : decode cX4_tells 31 = .ok (.iconst 2, 1) := dk_5 (dk_at dksX4_tells_1 7 rfl rfl)
theorem dX4_tells_32 : decode cX4_tells 32 = .ok (.aload_n 0, 1) := dk_42 (dk_at dksX4_tells_1 8 rfl rfl)
theorem dX4_tells_33 : decode cX4_tells 33 = .ok (.getfield 143, 3) := dk_180 0 143 (dk_at dksX4_tells_1 9 rfl rfl)
theorem dX4_tells_36 : decode cX4_tells 36 = .ok (.iload_n 1, 1) := dk_27 (dk_at dksX4_tells_1 12 rfl rfl)
theorem dX4_tells_37 : decode cX4_tells 37 = .ok (.iaload, 1) := dk_46 (dk_at dksX4_tells_1 13 rfl rfl)
theorem dX4_tells_38 : decode cX4_tells 38 = .ok (.bipush 60, 2) := dk_16 60 (dk_at dksX4_tells_1 14 rfl rfl)
theorem dX4_tells_40 : decode cX4_tells 40 = .ok (.idiv, 1) := dk_108 (dk_at dksX4_tells_1 16 rfl rfl)
theorem dX4_tells_41 : decode cX4_tells 41 = .ok (.iastore, 1) := dk_79 (dk_at dksX4_tells_1 17 rfl rfl)
theorem dX4_tells_42 : decode cX4_tells 42 = .ok (.aload_n 0, 1) := dk_42 (dk_at dksX4_tells_1 18 rfl rfl)
theorem dX4_tells_43 : decode cX4_tells 43 = .ok (.getfield 100, 3) := dk_180 0 100 (dk_at dksX4_tells_1 19 rfl rfl)
theorem dX4_tells_46 : decode cX4_tells 46 = .ok (.iconst 3, 1) := dk_6 (dk_at dksX4_tells_1 22 rfl rfl)
theorem dX4_tells_47 : decode cX4_tells 47 = .ok (.aload_n 0, 1) := dk_42 (dk_at dksX4_tells_1 23 rfl rfl)
theorem dX4_tells_48 : decode cX4_tells 48 = .ok (.getfield 152, 3) := dk_180 0 152 (dk_at dksX4_tells_2 0 rfl rfl)
theorem dX4_tells_51 : decode cX4_tells 51 = .ok (.iload_n 1, 1) := dk_27 (dk_at dksX4_tells_2 3 rfl rfl)
theorem dX4_tells_52 : decode cX4_tells 52 = .ok (.iaload, 1) := dk_46 (dk_at dksX4_tells_2 4 rfl rfl)
theorem dX4_tells_53 : decode cX4_tells 53 = .ok (.ifCond .ge 7, 3) := dk_156 0 7 (dk_at dksX4_tells_2 5 rfl rfl)
theorem dX4_tells_56 : decode cX4_tells 56 = .ok (.iconst 0, 1) := dk_3 (dk_at dksX4_tells_2 8 rfl rfl)
theorem dX4_tells_57 : decode cX4_tells 57 = .ok (.goto 4, 3) := dk_167 0 4 (dk_at dksX4_tells_2 9 rfl rfl)
theorem dX4_tells_60 : decode cX4_tells 60 = .ok (.iconst 1, 1) := dk_4 (dk_at dksX4_tells_2 12 rfl rfl)
theorem dX4_tells_61 : decode cX4_tells 61 = .ok (.iastore, 1) := dk_79 (dk_at dksX4_tells_2 13 rfl rfl)
theorem dX4_tells_62 : decode cX4_tells 62 = .ok (.aload_n 0, 1) := dk_42 (dk_at dksX4_tells_2 14 rfl rfl)
theorem dX4_tells_63 : decode cX4_tells 63 = .ok (.getfield 100, 3) := dk_180 0 100 (dk_at dksX4_tells_2 15 rfl rfl)
theorem dX4_tells_66 : decode cX4_tells 66 = .ok (.iconst 4, 1) := dk_7 (dk_at dksX4_tells_2 18 rfl rfl)
theorem dX4_tells_67 : decode cX4_tells 67 = .ok (.aload_n 0, 1) := dk_42 (dk_at dksX4_tells_2 19 rfl rfl)
theorem dX4_tells_68 : decode cX4_tells 68 = .ok (.getfield 140, 3) := dk_180 0 140 (dk_at dksX4_tells_2 20 rfl rfl)
theorem dX4_tells_71 : decode cX4_tells 71 = .ok (.iload_n 1, 1) := dk_27 (dk_at dksX4_tells_2 23 rfl rfl)
theorem dX4_tells_72 : decode cX4_tells 72 = .ok (.iaload, 1) := dk_46 (dk_at dksX4_tells_3 0 rfl rfl)
theorem dX4_tells_73 : decode cX4_tells 73 = .ok (.bipush 7, 2) := dk_16 7 (dk_at dksX4_tells_3 1 rfl rfl)
theorem dX4_tells_75 : decode cX4_tells 75 = .ok (.idiv, 1) := dk_108 (dk_at dksX4_tells_3 3 rfl rfl)
theorem dX4_tells_76 : decode cX4_tells 76 = .ok (.bipush 53, 2) := dk_16 53 (dk_at dksX4_tells_3 4 rfl rfl)
theorem dX4_tells_78 : decode cX4_tells 78 = .ok (.irem, 1) := dk_112 (dk_at dksX4_tells_3 6 rfl rfl)
theorem dX4_tells_79 : decode cX4_tells 79 = .ok (.iastore, 1) := dk_79 (dk_at dksX4_tells_3 7 rfl rfl)
theorem dX4_tells_80 : decode cX4_tells 80 = .ok (.aload_n 0, 1) := dk_42 (dk_at dksX4_tells_3 8 rfl rfl)
theorem dX4_tells_81 : decode cX4_tells 81 = .ok (.getfield 100, 3) := dk_180 0 100 (dk_at dksX4_tells_3 9 rfl rfl)
theorem dX4_tells_84 : decode cX4_tells 84 = .ok (.iconst 5, 1) := dk_8 (dk_at dksX4_tells_3 12 rfl rfl)
theorem dX4_tells_85 : decode cX4_tells 85 = .ok (.iload_n 3, 1) := dk_29 (dk_at dksX4_tells_3 13 rfl rfl)
theorem dX4_tells_86 : decode cX4_tells 86 = .ok (.iastore, 1) := dk_79 (dk_at dksX4_tells_3 14 rfl rfl)
theorem dX4_tells_87 : decode cX4_tells 87 = .ok (.return_, 1) := dk_177 (dk_at dksX4_tells_3 15 rfl rfl)
abbrev cX4_bits : ByteArray := prog_21_method_51_code
def yX4_bits : MethodName := ⟨RX4, "bits", "(I)I"⟩
def dkwX4_bits_1 : List UInt8 := [27, 172]
abbrev dktX4_bits_1 : List UInt8 := dkwX4_bits_1 ++ []
def dkwX4_bits_0 : List UInt8 := [3, 60, 3, 61, 28, 16, 20, 162, 0, 17, 27, 26, 28, 122, 4, 126, 96, 60, 132, 2, 1, 167, 255, 239]
abbrev dktX4_bits_0 : List UInt8 := dkwX4_bits_0 ++ dktX4_bits_1
theorem dksX4_bits_0 : cX4_bits.data.toList.drop 0 = dktX4_bits_0 := by decide +kernel
theorem dksX4_bits_1 : cX4_bits.data.toList.drop 24 = dktX4_bits_1 := dk_seg dksX4_bits_0 24 rfl rfl
theorem dX4_bits_0 : decode cX4_bits 0 = .ok (.iconst 0, 1) := dk_3 (dk_at dksX4_bits_0 0 rfl rfl)
theorem dX4_bits_1 : decode cX4_bits 1 = .ok (.istore_n 1, 1) := dk_60 (dk_at dksX4_bits_0 1 rfl rfl)
theorem dX4_bits_2 : decode cX4_bits 2 = .ok (.iconst 0, 1) := dk_3 (dk_at dksX4_bits_0 2 rfl rfl)
theorem dX4_bits_3 : decode cX4_bits 3 = .ok (.istore_n 2, 1) := dk_61 (dk_at dksX4_bits_0 3 rfl rfl)
theorem dX4_bits_4 : decode cX4_bits 4 = .ok (.iload_n 2, 1) := dk_28 (dk_at dksX4_bits_0 4 rfl rfl)
theorem dX4_bits_5 : decode cX4_bits 5 = .ok (.bipush 20, 2) := dk_16 20 (dk_at dksX4_bits_0 5 rfl rfl)
theorem dX4_bits_7 : decode cX4_bits 7 = .ok (.if_icmp .ge 17, 3) := dk_162 0 17 (dk_at dksX4_bits_0 7 rfl rfl)
theorem dX4_bits_10 : decode cX4_bits 10 = .ok (.iload_n 1, 1) := dk_27 (dk_at dksX4_bits_0 10 rfl rfl)
theorem dX4_bits_11 : decode cX4_bits 11 = .ok (.iload_n 0, 1) := dk_26 (dk_at dksX4_bits_0 11 rfl rfl)
theorem dX4_bits_12 : decode cX4_bits 12 = .ok (.iload_n 2, 1) := dk_28 (dk_at dksX4_bits_0 12 rfl rfl)
theorem dX4_bits_13 : decode cX4_bits 13 = .ok (.ishr, 1) := dk_122 (dk_at dksX4_bits_0 13 rfl rfl)
theorem dX4_bits_14 : decode cX4_bits 14 = .ok (.iconst 1, 1) := dk_4 (dk_at dksX4_bits_0 14 rfl rfl)
theorem dX4_bits_15 : decode cX4_bits 15 = .ok (.iand, 1) := dk_126 (dk_at dksX4_bits_0 15 rfl rfl)
theorem dX4_bits_16 : decode cX4_bits 16 = .ok (.iadd, 1) := dk_96 (dk_at dksX4_bits_0 16 rfl rfl)
theorem dX4_bits_17 : decode cX4_bits 17 = .ok (.istore_n 1, 1) := dk_60 (dk_at dksX4_bits_0 17 rfl rfl)
theorem dX4_bits_18 : decode cX4_bits 18 = .ok (.iinc 2 1, 3) := dk_132 2 1 (dk_at dksX4_bits_0 18 rfl rfl)
theorem dX4_bits_21 : decode cX4_bits 21 = .ok (.goto (-17), 3) := dk_167 255 239 (dk_at dksX4_bits_0 21 rfl rfl)
theorem dX4_bits_24 : decode cX4_bits 24 = .ok (.iload_n 1, 1) := dk_27 (dk_at dksX4_bits_1 0 rfl rfl)
theorem dX4_bits_25 : decode cX4_bits 25 = .ok (.ireturn, 1) := dk_172 (dk_at dksX4_bits_1 1 rfl rfl)
abbrev cX4_briefOf : ByteArray := prog_21_method_52_code
def yX4_briefOf : MethodName := ⟨RX4, "briefOf", "(I)I"⟩
def dkwX4_briefOf_4 : List UInt8 := [167, 0, 4, 28, 61, 132, 3, 1, 167, 255, 160, 28, 172]
abbrev dktX4_briefOf_4 : List UInt8 := dkwX4_briefOf_4 ++ []
def dkwX4_briefOf_3 : List UInt8 := [153, 0, 26, 28, 155, 0, 18, 42, 180, 0, 70, 29, 46, 42, 180, 0, 70, 28, 46, 161, 0, 7, 29]
abbrev dktX4_briefOf_3 : List UInt8 := dkwX4_briefOf_3 ++ dktX4_briefOf_4
def dkwX4_briefOf_2 : List UInt8 := [180, 0, 70, 29, 46, 42, 180, 0, 140, 27, 46, 163, 0, 7, 4, 167, 0, 4, 3, 54, 4, 21, 4]
abbrev dktX4_briefOf_2 : List UInt8 := dkwX4_briefOf_2 ++ dktX4_briefOf_3
def dkwX4_briefOf_1 : List UInt8 := [180, 0, 134, 27, 46, 46, 160, 0, 35, 42, 180, 0, 73, 29, 46, 42, 182, 1, 132, 163, 0, 22, 42]
abbrev dktX4_briefOf_1 : List UInt8 := dkwX4_briefOf_1 ++ dktX4_briefOf_2
def dkwX4_briefOf_0 : List UInt8 := [2, 61, 3, 62, 29, 42, 180, 1, 23, 162, 0, 94, 42, 180, 0, 67, 29, 46, 42, 180, 0, 115, 42]
abbrev dktX4_briefOf_0 : List UInt8 := dkwX4_briefOf_0 ++ dktX4_briefOf_1
theorem dksX4_briefOf_0 : cX4_briefOf.data.toList.drop 0 = dktX4_briefOf_0 := by decide +kernel
theorem dksX4_briefOf_1 : cX4_briefOf.data.toList.drop 23 = dktX4_briefOf_1 := dk_seg dksX4_briefOf_0 23 rfl rfl
theorem dksX4_briefOf_2 : cX4_briefOf.data.toList.drop 46 = dktX4_briefOf_2 := dk_seg dksX4_briefOf_1 23 rfl rfl
theorem dksX4_briefOf_3 : cX4_briefOf.data.toList.drop 69 = dktX4_briefOf_3 := dk_seg dksX4_briefOf_2 23 rfl rfl
theorem dksX4_briefOf_4 : cX4_briefOf.data.toList.drop 92 = dktX4_briefOf_4 := dk_seg dksX4_briefOf_3 23 rfl rfl
theorem dX4_briefOf_0 : decode cX4_briefOf 0 = .ok (.iconst (-1), 1) := dk_2 (dk_at dksX4_briefOf_0 0 rfl rfl)
theorem dX4_briefOf_1 : decode cX4_briefOf 1 = .ok (.istore_n 2, 1) := dk_61 (dk_at dksX4_briefOf_0 1 rfl rfl)
theorem dX4_briefOf_2 : decode cX4_briefOf 2 = .ok (.iconst 0, 1) := dk_3 (dk_at dksX4_briefOf_0 2 rfl rfl)
theorem dX4_briefOf_3 : decode cX4_briefOf 3 = .ok (.istore_n 3, 1) := dk_62 (dk_at dksX4_briefOf_0 3 rfl rfl)
theorem dX4_briefOf_4 : decode cX4_briefOf 4 = .ok (.iload_n 3, 1) := dk_29 (dk_at dksX4_briefOf_0 4 rfl rfl)
theorem dX4_briefOf_5 : decode cX4_briefOf 5 = .ok (.aload_n 0, 1) := dk_42 (dk_at dksX4_briefOf_0 5 rfl rfl)
theorem dX4_briefOf_6 : decode cX4_briefOf 6 = .ok (.getfield 279, 3) := dk_180 1 23 (dk_at dksX4_briefOf_0 6 rfl rfl)
theorem dX4_briefOf_9 : decode cX4_briefOf 9 = .ok (.if_icmp .ge 94, 3) := dk_162 0 94 (dk_at dksX4_briefOf_0 9 rfl rfl)
theorem dX4_briefOf_12 : decode cX4_briefOf 12 = .ok (.aload_n 0, 1) := dk_42 (dk_at dksX4_briefOf_0 12 rfl rfl)
theorem dX4_briefOf_13 : decode cX4_briefOf 13 = .ok (.getfield 67, 3) := dk_180 0 67 (dk_at dksX4_briefOf_0 13 rfl rfl)
theorem dX4_briefOf_16 : decode cX4_briefOf 16 = .ok (.iload_n 3, 1) := dk_29 (dk_at dksX4_briefOf_0 16 rfl rfl)
theorem dX4_briefOf_17 : decode cX4_briefOf 17 = .ok (.iaload, 1) := dk_46 (dk_at dksX4_briefOf_0 17 rfl rfl)
theorem dX4_briefOf_18 : decode cX4_briefOf 18 = .ok (.aload_n 0, 1) := dk_42 (dk_at dksX4_briefOf_0 18 rfl rfl)
theorem dX4_briefOf_19 : decode cX4_briefOf 19 = .ok (.getfield 115, 3) := dk_180 0 115 (dk_at dksX4_briefOf_0 19 rfl rfl)
theorem dX4_briefOf_22 : decode cX4_briefOf 22 = .ok (.aload_n 0, 1) := dk_42 (dk_at dksX4_briefOf_0 22 rfl rfl)
theorem dX4_briefOf_23 : decode cX4_briefOf 23 = .ok (.getfield 134, 3) := dk_180 0 134 (dk_at dksX4_briefOf_1 0 rfl rfl)
theorem dX4_briefOf_26 : decode cX4_briefOf 26 = .ok (.iload_n 1, 1) := dk_27 (dk_at dksX4_briefOf_1 3 rfl rfl)
theorem dX4_briefOf_27 : decode cX4_briefOf 27 = .ok (.iaload, 1) := dk_46 (dk_at dksX4_briefOf_1 4 rfl rfl)
theorem dX4_briefOf_28 : decode cX4_briefOf 28 = .ok (.iaload, 1) := dk_46 (dk_at dksX4_briefOf_1 5 rfl rfl)
theorem dX4_briefOf_29 : decode cX4_briefOf 29 = .ok (.if_icmp .ne 35, 3) := dk_160 0 35 (dk_at dksX4_briefOf_1 6 rfl rfl)
theorem dX4_briefOf_32 : decode cX4_briefOf 32 = .ok (.aload_n 0, 1) := dk_42 (dk_at dksX4_briefOf_1 9 rfl rfl)
theorem dX4_briefOf_33 : decode cX4_briefOf 33 = .ok (.getfield 73, 3) := dk_180 0 73 (dk_at dksX4_briefOf_1 10 rfl rfl)
theorem dX4_briefOf_36 : decode cX4_briefOf 36 = .ok (.iload_n 3, 1) := dk_29 (dk_at dksX4_briefOf_1 13 rfl rfl)
theorem dX4_briefOf_37 : decode cX4_briefOf 37 = .ok (.iaload, 1) := dk_46 (dk_at dksX4_briefOf_1 14 rfl rfl)
theorem dX4_briefOf_38 : decode cX4_briefOf 38 = .ok (.aload_n 0, 1) := dk_42 (dk_at dksX4_briefOf_1 15 rfl rfl)
theorem dX4_briefOf_39 : decode cX4_briefOf 39 = .ok (.invokevirtual 388, 3) := dk_182 1 132 (dk_at dksX4_briefOf_1 16 rfl rfl)
theorem dX4_briefOf_42 : decode cX4_briefOf 42 = .ok (.if_icmp .gt 22, 3) := dk_163 0 22 (dk_at dksX4_briefOf_1 19 rfl rfl)
theorem dX4_briefOf_45 : decode cX4_briefOf 45 = .ok (.aload_n 0, 1) := dk_42 (dk_at dksX4_briefOf_1 22 rfl rfl)
theorem dX4_briefOf_46 : decode cX4_briefOf 46 = .ok (.getfield 70, 3) := dk_180 0 70 (dk_at dksX4_briefOf_2 0 rfl rfl)
theorem dX4_briefOf_49 : decode cX4_briefOf 49 = .ok (.iload_n 3, 1) := dk_29 (dk_at dksX4_briefOf_2 3 rfl rfl)
theorem dX4_briefOf_50 : decode cX4_briefOf 50 = .ok (.iaload, 1) := dk_46 (dk_at dksX4_briefOf_2 4 rfl rfl)
theorem dX4_briefOf_51 : decode cX4_briefOf 51 = .ok (.aload_n 0, 1) := dk_42 (dk_at dksX4_briefOf_2 5 rfl rfl)
theorem dX4_briefOf_52 : decode cX4_briefOf 52 = .ok (.getfield 140, 3) := dk_180 0 140 (dk_at dksX4_briefOf_2 6 rfl rfl)
theorem dX4_briefOf_55 : decode cX4_briefOf 55 = .ok (.iload_n 1, 1) := dk_27 (dk_at dksX4_briefOf_2 9 rfl rfl)
theorem dX4_briefOf_56 : decode cX4_briefOf 56 = .ok (.iaload, 1) := dk_46 (dk_at dksX4_briefOf_2 10 rfl rfl)
theorem dX4_briefOf_57 : decode cX4_briefOf 57 = .ok (.if_icmp .gt 7, 3) := dk_163 0 7 (dk_at dksX4_briefOf_2 11 rfl rfl)
theorem dX4_briefOf_60 : decode cX4_briefOf 60 = .ok (.iconst 1, 1) := dk_4 (dk_at dksX4_briefOf_2 14 rfl rfl)
theorem dX4_briefOf_61 : decode cX4_briefOf 61 = .ok (.goto 4, 3) := dk_167 0 4 (dk_at dksX4_briefOf_2 15 rfl rfl)
theorem dX4_briefOf_64 : decode cX4_briefOf 64 = .ok (.iconst 0, 1) := dk_3 (dk_at dksX4_briefOf_2 18 rfl rfl)
theorem dX4_briefOf_65 : decode cX4_briefOf 65 = .ok (.istore 4, 2) := dk_54 4 (dk_at dksX4_briefOf_2 19 rfl rfl)
theorem dX4_briefOf_67 : decode cX4_briefOf 67 = .ok (.iload 4, 2) := dk_21 4 (dk_at dksX4_briefOf_2 21 rfl rfl)
theorem dX4_briefOf_69 : decode cX4_briefOf 69 = .ok (.ifCond .eq 26, 3) := dk_153 0 26 (dk_at dksX4_briefOf_3 0 rfl rfl)
theorem dX4_briefOf_72 : decode cX4_briefOf 72 = .ok (.iload_n 2, 1) := dk_28 (dk_at dksX4_briefOf_3 3 rfl rfl)
theorem dX4_briefOf_73 : decode cX4_briefOf 73 = .ok (.ifCond .lt 18, 3) := dk_155 0 18 (dk_at dksX4_briefOf_3 4 rfl rfl)
theorem dX4_briefOf_76 : decode cX4_briefOf 76 = .ok (.aload_n 0, 1) := dk_42 (dk_at dksX4_briefOf_3 7 rfl rfl)
theorem dX4_briefOf_77 : decode cX4_briefOf 77 = .ok (.getfield 70, 3) := dk_180 0 70 (dk_at dksX4_briefOf_3 8 rfl rfl)
theorem dX4_briefOf_80 : decode cX4_briefOf 80 = .ok (.iload_n 3, 1) := dk_29 (dk_at dksX4_briefOf_3 11 rfl rfl)
theorem dX4_briefOf_81 : decode cX4_briefOf 81 = .ok (.iaload, 1) := dk_46 (dk_at dksX4_briefOf_3 12 rfl rfl)
theorem dX4_briefOf_82 : decode cX4_briefOf 82 = .ok (.aload_n 0, 1) := dk_42 (dk_at dksX4_briefOf_3 13 rfl rfl)
theorem dX4_briefOf_83 : decode cX4_briefOf 83 = .ok (.getfield 70, 3) := dk_180 0 70 (dk_at dksX4_briefOf_3 14 rfl rfl)
theorem dX4_briefOf_86 : decode cX4_briefOf 86 = .ok (.iload_n 2, 1) := dk_28 (dk_at dksX4_briefOf_3 17 rfl rfl)
theorem dX4_briefOf_87 : decode cX4_briefOf 87 = .ok (.iaload, 1) := dk_46 (dk_at dksX4_briefOf_3 18 rfl rfl)
theorem dX4_briefOf_88 : decode cX4_briefOf 88 = .ok (.if_icmp .lt 7, 3) := dk_161 0 7 (dk_at dksX4_briefOf_3 19 rfl rfl)
theorem dX4_briefOf_91 : decode cX4_briefOf 91 = .ok (.iload_n 3, 1) := dk_29 (dk_at dksX4_briefOf_3 22 rfl rfl)
theorem dX4_briefOf_92 : decode cX4_briefOf 92 = .ok (.goto 4, 3) := dk_167 0 4 (dk_at dksX4_briefOf_4 0 rfl rfl)
theorem dX4_briefOf_95 : decode cX4_briefOf 95 = .ok (.iload_n 2, 1) := dk_28 (dk_at dksX4_briefOf_4 3 rfl rfl)
theorem dX4_briefOf_96 : decode cX4_briefOf 96 = .ok (.istore_n 2, 1) := dk_61 (dk_at dksX4_briefOf_4 4 rfl rfl)
theorem dX4_briefOf_97 : decode cX4_briefOf 97 = .ok (.iinc 3 1, 3) := dk_132 3 1 (dk_at dksX4_briefOf_4 5 rfl rfl)
theorem dX4_briefOf_100 : decode cX4_briefOf 100 = .ok (.goto (-96), 3) := dk_167 255 160 (dk_at dksX4_briefOf_4 8 rfl rfl)
theorem dX4_briefOf_103 : decode cX4_briefOf 103 = .ok (.iload_n 2, 1) := dk_28 (dk_at dksX4_briefOf_4 11 rfl rfl)
theorem dX4_briefOf_104 : decode cX4_briefOf 104 = .ok (.ireturn, 1) := dk_172 (dk_at dksX4_briefOf_4 12 rfl rfl)
abbrev cX4_judges : ByteArray := prog_21_method_33_code
def yX4_judges : MethodName := ⟨RX4, "judges", "(I)V"⟩
def dkwX4_judges_10 : List UInt8 := [156, 0, 7, 3, 167, 0, 4, 29, 181, 1, 96, 177]
abbrev dktX4_judges_10 : List UInt8 := dkwX4_judges_10 ++ []
def dkwX4_judges_9 : List UInt8 := [17, 3, 232, 164, 0, 9, 17, 3, 232, 167, 0, 4, 28, 181, 1, 93, 42, 21, 4, 154, 0, 7, 29]
abbrev dktX4_judges_9 : List UInt8 := dkwX4_judges_9 ++ dktX4_judges_10
def dkwX4_judges_8 : List UInt8 := [29, 62, 132, 6, 1, 167, 255, 93, 42, 21, 4, 154, 0, 7, 28, 156, 0, 7, 3, 167, 0, 17, 28]
abbrev dktX4_judges_8 : List UInt8 := dkwX4_judges_8 ++ dktX4_judges_9
def dkwX4_judges_7 : List UInt8 := [180, 0, 79, 21, 6, 46, 6, 160, 0, 17, 29, 156, 0, 13, 42, 180, 0, 82, 21, 6, 46, 167, 0, 4]
abbrev dktX4_judges_7 : List UInt8 := dkwX4_judges_7 ++ dktX4_judges_8
def dkwX4_judges_6 : List UInt8 := [46, 4, 160, 0, 17, 42, 42, 180, 0, 85, 21, 6, 46, 182, 1, 99, 167, 0, 4, 3, 96, 61, 42]
abbrev dktX4_judges_6 : List UInt8 := dkwX4_judges_6 ++ dktX4_judges_7
def dkwX4_judges_5 : List UInt8 := [167, 0, 73, 42, 42, 180, 0, 88, 21, 6, 46, 182, 1, 99, 153, 0, 59, 28, 42, 180, 0, 79, 21, 6]
abbrev dktX4_judges_5 : List UInt8 := dkwX4_judges_5 ++ dktX4_judges_6
def dkwX4_judges_4 : List UInt8 := [154, 0, 17, 42, 42, 180, 0, 85, 21, 6, 46, 182, 1, 99, 154, 0, 7, 4, 167, 0, 4, 3, 54, 4]
abbrev dktX4_judges_4 : List UInt8 := dkwX4_judges_4 ++ dktX4_judges_5
def dkwX4_judges_3 : List UInt8 := [182, 1, 99, 79, 132, 5, 1, 167, 0, 113, 42, 180, 0, 79, 21, 6, 46, 5, 160, 0, 32, 21, 4]
abbrev dktX4_judges_3 : List UInt8 := dkwX4_judges_3 ++ dktX4_judges_4
def dkwX4_judges_2 : List UInt8 := [42, 180, 0, 79, 21, 6, 46, 154, 0, 27, 42, 180, 0, 103, 21, 5, 42, 42, 180, 0, 85, 21, 6, 46]
abbrev dktX4_judges_2 : List UInt8 := dkwX4_judges_2 ++ dktX4_judges_3
def dkwX4_judges_1 : List UInt8 := [54, 5, 16, 16, 27, 104, 54, 6, 21, 6, 16, 16, 27, 104, 42, 180, 0, 76, 27, 46, 96, 162, 0, 153]
abbrev dktX4_judges_1 : List UInt8 := dkwX4_judges_1 ++ dktX4_judges_2
def dkwX4_judges_0 : List UInt8 := [42, 3, 181, 1, 93, 42, 3, 181, 1, 96, 27, 156, 0, 4, 177, 3, 61, 2, 62, 3, 54, 4, 3]
abbrev dktX4_judges_0 : List UInt8 := dkwX4_judges_0 ++ dktX4_judges_1
theorem dksX4_judges_0 : cX4_judges.data.toList.drop 0 = dktX4_judges_0 := by decide +kernel
theorem dksX4_judges_1 : cX4_judges.data.toList.drop 23 = dktX4_judges_1 := dk_seg dksX4_judges_0 23 rfl rfl
theorem dksX4_judges_2 : cX4_judges.data.toList.drop 47 = dktX4_judges_2 := dk_seg dksX4_judges_1 24 rfl rfl
theorem dksX4_judges_3 : cX4_judges.data.toList.drop 71 = dktX4_judges_3 := dk_seg dksX4_judges_2 24 rfl rfl
theorem dksX4_judges_4 : cX4_judges.data.toList.drop 94 = dktX4_judges_4 := dk_seg dksX4_judges_3 23 rfl rfl
theorem dksX4_judges_5 : cX4_judges.data.toList.drop 118 = dktX4_judges_5 := dk_seg dksX4_judges_4 24 rfl rfl
theorem dksX4_judges_6 : cX4_judges.data.toList.drop 142 = dktX4_judges_6 := dk_seg dksX4_judges_5 24 rfl rfl
theorem dksX4_judges_7 : cX4_judges.data.toList.drop 165 = dktX4_judges_7 := dk_seg dksX4_judges_6 23 rfl rfl
theorem dksX4_judges_8 : cX4_judges.data.toList.drop 189 = dktX4_judges_8 := dk_seg dksX4_judges_7 24 rfl rfl
theorem dksX4_judges_9 : cX4_judges.data.toList.drop 212 = dktX4_judges_9 := dk_seg dksX4_judges_8 23 rfl rfl
theorem dksX4_judges_10 : cX4_judges.data.toList.drop 235 = dktX4_judges_10 := dk_seg dksX4_judges_9 23 rfl rfl
theorem dX4_judges_0 : decode cX4_judges 0 = .ok (.aload_n 0, 1) := dk_42 (dk_at dksX4_judges_0 0 rfl rfl)
theorem dX4_judges_1 : decode cX4_judges 1 = .ok (.iconst 0, 1) := dk_3 (dk_at dksX4_judges_0 1 rfl rfl)
theorem dX4_judges_2 : decode cX4_judges 2 = .ok (.putfield 349, 3) := dk_181 1 93 (dk_at dksX4_judges_0 2 rfl rfl)
theorem dX4_judges_5 : decode cX4_judges 5 = .ok (.aload_n 0, 1) := dk_42 (dk_at dksX4_judges_0 5 rfl rfl)
theorem dX4_judges_6 : decode cX4_judges 6 = .ok (.iconst 0, 1) := dk_3 (dk_at dksX4_judges_0 6 rfl rfl)
theorem dX4_judges_7 : decode cX4_judges 7 = .ok (.putfield 352, 3) := dk_181 1 96 (dk_at dksX4_judges_0 7 rfl rfl)
theorem dX4_judges_10 : decode cX4_judges 10 = .ok (.iload_n 1, 1) := dk_27 (dk_at dksX4_judges_0 10 rfl rfl)
theorem dX4_judges_11 : decode cX4_judges 11 = .ok (.ifCond .ge 4, 3) := dk_156 0 4 (dk_at dksX4_judges_0 11 rfl rfl)
theorem dX4_judges_14 : decode cX4_judges 14 = .ok (.return_, 1) := dk_177 (dk_at dksX4_judges_0 14 rfl rfl)
theorem dX4_judges_15 : decode cX4_judges 15 = .ok (.iconst 0, 1) := dk_3 (dk_at dksX4_judges_0 15 rfl rfl)
theorem dX4_judges_16 : decode cX4_judges 16 = .ok (.istore_n 2, 1) := dk_61 (dk_at dksX4_judges_0 16 rfl rfl)
theorem dX4_judges_17 : decode cX4_judges 17 = .ok (.iconst (-1), 1) := dk_2 (dk_at dksX4_judges_0 17 rfl rfl)
theorem dX4_judges_18 : decode cX4_judges 18 = .ok (.istore_n 3, 1) := dk_62 (dk_at dksX4_judges_0 18 rfl rfl)
theorem dX4_judges_19 : decode cX4_judges 19 = .ok (.iconst 0, 1) := dk_3 (dk_at dksX4_judges_0 19 rfl rfl)
theorem dX4_judges_20 : decode cX4_judges 20 = .ok (.istore 4, 2) := dk_54 4 (dk_at dksX4_judges_0 20 rfl rfl)
theorem dX4_judges_22 : decode cX4_judges 22 = .ok (.iconst 0, 1) := dk_3 (dk_at dksX4_judges_0 22 rfl rfl)
theorem dX4_judges_23 : decode cX4_judges 23 = .ok (.istore 5, 2) := dk_54 5 (dk_at dksX4_judges_1 0 rfl rfl)
theorem dX4_judges_25 : decode cX4_judges 25 = .ok (.bipush 16, 2) := dk_16 16 (dk_at dksX4_judges_1 2 rfl rfl)
theorem dX4_judges_27 : decode cX4_judges 27 = .ok (.iload_n 1, 1) := dk_27 (dk_at dksX4_judges_1 4 rfl rfl)
theorem dX4_judges_28 : decode cX4_judges 28 = .ok (.imul, 1) := dk_104 (dk_at dksX4_judges_1 5 rfl rfl)
theorem dX4_judges_29 : decode cX4_judges 29 = .ok (.istore 6, 2) := dk_54 6 (dk_at dksX4_judges_1 6 rfl rfl)
theorem dX4_judges_31 : decode cX4_judges 31 = .ok (.iload 6, 2) := dk_21 6 (dk_at dksX4_judges_1 8 rfl rfl)
theorem dX4_judges_33 : decode cX4_judges 33 = .ok (.bipush 16, 2) := dk_16 16 (dk_at dksX4_judges_1 10 rfl rfl)
theorem dX4_judges_35 : decode cX4_judges 35 = .ok (.iload_n 1, 1) := dk_27 (dk_at dksX4_judges_1 12 rfl rfl)
theorem dX4_judges_36 : decode cX4_judges 36 = .ok (.imul, 1) := dk_104 (dk_at dksX4_judges_1 13 rfl rfl)
theorem dX4_judges_37 : decode cX4_judges 37 = .ok (.aload_n 0, 1) := dk_42 (dk_at dksX4_judges_1 14 rfl rfl)
theorem dX4_judges_38 : decode cX4_judges 38 = .ok (.getfield 76, 3) := dk_180 0 76 (dk_at dksX4_judges_1 15 rfl rfl)
theorem dX4_judges_41 : decode cX4_judges 41 = .ok (.iload_n 1, 1) := dk_27 (dk_at dksX4_judges_1 18 rfl rfl)
theorem dX4_judges_42 : decode cX4_judges 42 = .ok (.iaload, 1) := dk_46 (dk_at dksX4_judges_1 19 rfl rfl)
theorem dX4_judges_43 : decode cX4_judges 43 = .ok (.iadd, 1) := dk_96 (dk_at dksX4_judges_1 20 rfl rfl)
theorem dX4_judges_44 : decode cX4_judges 44 = .ok (.if_icmp .ge 153, 3) := dk_162 0 153 (dk_at dksX4_judges_1 21 rfl rfl)
theorem dX4_judges_47 : decode cX4_judges 47 = .ok (.aload_n 0, 1) := dk_42 (dk_at dksX4_judges_2 0 rfl rfl)
theorem dX4_judges_48 : decode cX4_judges 48 = .ok (.getfield 79, 3) := dk_180 0 79 (dk_at dksX4_judges_2 1 rfl rfl)
theorem dX4_judges_51 : decode cX4_judges 51 = .ok (.iload 6, 2) := dk_21 6 (dk_at dksX4_judges_2 4 rfl rfl)
theorem dX4_judges_53 : decode cX4_judges 53 = .ok (.iaload, 1) := dk_46 (dk_at dksX4_judges_2 6 rfl rfl)
theorem dX4_judges_54 : decode cX4_judges 54 = .ok (.ifCond .ne 27, 3) := dk_154 0 27 (dk_at dksX4_judges_2 7 rfl rfl)
theorem dX4_judges_57 : decode cX4_judges 57 = .ok (.aload_n 0, 1) := dk_42 (dk_at dksX4_judges_2 10 rfl rfl)
theorem dX4_judges_58 : decode cX4_judges 58 = .ok (.getfield 103, 3) := dk_180 0 103 (dk_at dksX4_judges_2 11 rfl rfl)
theorem dX4_judges_61 : decode cX4_judges 61 = .ok (.iload 5, 2) := dk_21 5 (dk_at dksX4_judges_2 14 rfl rfl)
theorem dX4_judges_63 : decode cX4_judges 63 = .ok (.aload_n 0, 1) := dk_42 (dk_at dksX4_judges_2 16 rfl rfl)
theorem dX4_judges_64 : decode cX4_judges 64 = .ok (.aload_n 0, 1) := dk_42 (dk_at dksX4_judges_2 17 rfl rfl)
theorem dX4_judges_65 : decode cX4_judges 65 = .ok (.getfield 85, 3) := dk_180 0 85 (dk_at dksX4_judges_2 18 rfl rfl)
theorem dX4_judges_68 : decode cX4_judges 68 = .ok (.iload 6, 2) := dk_21 6 (dk_at dksX4_judges_2 21 rfl rfl)
theorem dX4_judges_70 : decode cX4_judges 70 = .ok (.iaload, 1) := dk_46 (dk_at dksX4_judges_2 23 rfl rfl)
theorem dX4_judges_71 : decode cX4_judges 71 = .ok (.invokevirtual 355, 3) := dk_182 1 99 (dk_at dksX4_judges_3 0 rfl rfl)
theorem dX4_judges_74 : decode cX4_judges 74 = .ok (.iastore, 1) := dk_79 (dk_at dksX4_judges_3 3 rfl rfl)
theorem dX4_judges_75 : decode cX4_judges 75 = .ok (.iinc 5 1, 3) := dk_132 5 1 (dk_at dksX4_judges_3 4 rfl rfl)
theorem dX4_judges_78 : decode cX4_judges 78 = .ok (.goto 113, 3) := dk_167 0 113 (dk_at dksX4_judges_3 7 rfl rfl)
theorem dX4_judges_81 : decode cX4_judges 81 = .ok (.aload_n 0, 1) := dk_42 (dk_at dksX4_judges_3 10 rfl rfl)
theorem dX4_judges_82 : decode cX4_judges 82 = .ok (.getfield 79, 3) := dk_180 0 79 (dk_at dksX4_judges_3 11 rfl rfl)
theorem dX4_judges_85 : decode cX4_judges 85 = .ok (.iload 6, 2) := dk_21 6 (dk_at dksX4_judges_3 14 rfl rfl)
theorem dX4_judges_87 : decode cX4_judges 87 = .ok (.iaload, 1) := dk_46 (dk_at dksX4_judges_3 16 rfl rfl)
theorem dX4_judges_88 : decode cX4_judges 88 = .ok (.iconst 2, 1) := dk_5 (dk_at dksX4_judges_3 17 rfl rfl)
theorem dX4_judges_89 : decode cX4_judges 89 = .ok (.if_icmp .ne 32, 3) := dk_160 0 32 (dk_at dksX4_judges_3 18 rfl rfl)
theorem dX4_judges_92 : decode cX4_judges 92 = .ok (.iload 4, 2) := dk_21 4 (dk_at dksX4_judges_3 21 rfl rfl)
theorem dX4_judges_94 : decode cX4_judges 94 = .ok (.ifCond .ne 17, 3) := dk_154 0 17 (dk_at dksX4_judges_4 0 rfl rfl)
theorem dX4_judges_97 : decode cX4_judges 97 = .ok (.aload_n 0, 1) := dk_42 (dk_at dksX4_judges_4 3 rfl rfl)
theorem dX4_judges_98 : decode cX4_judges 98 = .ok (.aload_n 0, 1) := dk_42 (dk_at dksX4_judges_4 4 rfl rfl)
theorem dX4_judges_99 : decode cX4_judges 99 = .ok (.getfield 85, 3) := dk_180 0 85 (dk_at dksX4_judges_4 5 rfl rfl)
theorem dX4_judges_102 : decode cX4_judges 102 = .ok (.iload 6, 2) := dk_21 6 (dk_at dksX4_judges_4 8 rfl rfl)
theorem dX4_judges_104 : decode cX4_judges 104 = .ok (.iaload, 1) := dk_46 (dk_at dksX4_judges_4 10 rfl rfl)
theorem dX4_judges_105 : decode cX4_judges 105 = .ok (.invokevirtual 355, 3) := dk_182 1 99 (dk_at dksX4_judges_4 11 rfl rfl)
theorem dX4_judges_108 : decode cX4_judges 108 = .ok (.ifCond .ne 7, 3) := dk_154 0 7 (dk_at dksX4_judges_4 14 rfl rfl)
theorem dX4_judges_111 : decode cX4_judges 111 = .ok (.iconst 1, 1) := dk_4 (dk_at dksX4_judges_4 17 rfl rfl)
theorem dX4_judges_112 : decode cX4_judges 112 = .ok (.goto 4, 3) := dk_167 0 4 (dk_at dksX4_judges_4 18 rfl rfl)
theorem dX4_judges_115 : decode cX4_judges 115 = .ok (.iconst 0, 1) := dk_3 (dk_at dksX4_judges_4 21 rfl rfl)
theorem dX4_judges_116 : decode cX4_judges 116 = .ok (.istore 4, 2) := dk_54 4 (dk_at dksX4_judges_4 22 rfl rfl)
theorem dX4_judges_118 : decode cX4_judges 118 = .ok (.goto 73, 3) := dk_167 0 73 (dk_at dksX4_judges_5 0 rfl rfl)
theorem dX4_judges_121 : decode cX4_judges 121 = .ok (.aload_n 0, 1) := dk_42 (dk_at dksX4_judges_5 3 rfl rfl)
theorem dX4_judges_122 : decode cX4_judges 122 = .ok (.aload_n 0, 1) := dk_42 (dk_at dksX4_judges_5 4 rfl rfl)
theorem dX4_judges_123 : decode cX4_judges 123 = .ok (.getfield 88, 3) := dk_180 0 88 (dk_at dksX4_judges_5 5 rfl rfl)
theorem dX4_judges_126 : decode cX4_judges 126 = .ok (.iload 6, 2) := dk_21 6 (dk_at dksX4_judges_5 8 rfl rfl)
theorem dX4_judges_128 : decode cX4_judges 128 = .ok (.iaload, 1) := dk_46 (dk_at dksX4_judges_5 10 rfl rfl)
theorem dX4_judges_129 : decode cX4_judges 129 = .ok (.invokevirtual 355, 3) := dk_182 1 99 (dk_at dksX4_judges_5 11 rfl rfl)
theorem dX4_judges_132 : decode cX4_judges 132 = .ok (.ifCond .eq 59, 3) := dk_153 0 59 (dk_at dksX4_judges_5 14 rfl rfl)
theorem dX4_judges_135 : decode cX4_judges 135 = .ok (.iload_n 2, 1) := dk_28 (dk_at dksX4_judges_5 17 rfl rfl)
theorem dX4_judges_136 : decode cX4_judges 136 = .ok (.aload_n 0, 1) := dk_42 (dk_at dksX4_judges_5 18 rfl rfl)
theorem dX4_judges_137 : decode cX4_judges 137 = .ok (.getfield 79, 3) := dk_180 0 79 (dk_at dksX4_judges_5 19 rfl rfl)
theorem dX4_judges_140 : decode cX4_judges 140 = .ok (.iload 6, 2) := dk_21 6 (dk_at dksX4_judges_5 22 rfl rfl)
theorem dX4_judges_142 : decode cX4_judges 142 = .ok (.iaload, 1) := dk_46 (dk_at dksX4_judges_6 0 rfl rfl)
theorem dX4_judges_143 : decode cX4_judges 143 = .ok (.iconst 1, 1) := dk_4 (dk_at dksX4_judges_6 1 rfl rfl)
theorem dX4_judges_144 : decode cX4_judges 144 = .ok (.if_icmp .ne 17, 3) := dk_160 0 17 (dk_at dksX4_judges_6 2 rfl rfl)
theorem dX4_judges_147 : decode cX4_judges 147 = .ok (.aload_n 0, 1) := dk_42 (dk_at dksX4_judges_6 5 rfl rfl)
theorem dX4_judges_148 : decode cX4_judges 148 = .ok (.aload_n 0, 1) := dk_42 (dk_at dksX4_judges_6 6 rfl rfl)
theorem dX4_judges_149 : decode cX4_judges 149 = .ok (.getfield 85, 3) := dk_180 0 85 (dk_at dksX4_judges_6 7 rfl rfl)
theorem dX4_judges_152 : decode cX4_judges 152 = .ok (.iload 6, 2) := dk_21 6 (dk_at dksX4_judges_6 10 rfl rfl)
theorem dX4_judges_154 : decode cX4_judges 154 = .ok (.iaload, 1) := dk_46 (dk_at dksX4_judges_6 12 rfl rfl)
theorem dX4_judges_155 : decode cX4_judges 155 = .ok (.invokevirtual 355, 3) := dk_182 1 99 (dk_at dksX4_judges_6 13 rfl rfl)
theorem dX4_judges_158 : decode cX4_judges 158 = .ok (.goto 4, 3) := dk_167 0 4 (dk_at dksX4_judges_6 16 rfl rfl)
theorem dX4_judges_161 : decode cX4_judges 161 = .ok (.iconst 0, 1) := dk_3 (dk_at dksX4_judges_6 19 rfl rfl)
theorem dX4_judges_162 : decode cX4_judges 162 = .ok (.iadd, 1) := dk_96 (dk_at dksX4_judges_6 20 rfl rfl)
theorem dX4_judges_163 : decode cX4_judges 163 = .ok (.istore_n 2, 1) := dk_61 (dk_at dksX4_judges_6 21 rfl rfl)
theorem dX4_judges_164 : decode cX4_judges 164 = .ok (.aload_n 0, 1) := dk_42 (dk_at dksX4_judges_6 22 rfl rfl)
theorem dX4_judges_165 : decode cX4_judges 165 = .ok (.getfield 79, 3) := dk_180 0 79 (dk_at dksX4_judges_7 0 rfl rfl)
theorem dX4_judges_168 : decode cX4_judges 168 = .ok (.iload 6, 2) := dk_21 6 (dk_at dksX4_judges_7 3 rfl rfl)
theorem dX4_judges_170 : decode cX4_judges 170 = .ok (.iaload, 1) := dk_46 (dk_at dksX4_judges_7 5 rfl rfl)
theorem dX4_judges_171 : decode cX4_judges 171 = .ok (.iconst 3, 1) := dk_6 (dk_at dksX4_judges_7 6 rfl rfl)
theorem dX4_judges_172 : decode cX4_judges 172 = .ok (.if_icmp .ne 17, 3) := dk_160 0 17 (dk_at dksX4_judges_7 7 rfl rfl)
theorem dX4_judges_175 : decode cX4_judges 175 = .ok (.iload_n 3, 1) := dk_29 (dk_at dksX4_judges_7 10 rfl rfl)
theorem dX4_judges_176 : decode cX4_judges 176 = .ok (.ifCond .ge 13, 3) := dk_156 0 13 (dk_at dksX4_judges_7 11 rfl rfl)
theorem dX4_judges_179 : decode cX4_judges 179 = .ok (.aload_n 0, 1) := dk_42 (dk_at dksX4_judges_7 14 rfl rfl)
theorem dX4_judges_180 : decode cX4_judges 180 = .ok (.getfield 82, 3) := dk_180 0 82 (dk_at dksX4_judges_7 15 rfl rfl)
theorem dX4_judges_183 : decode cX4_judges 183 = .ok (.iload 6, 2) := dk_21 6 (dk_at dksX4_judges_7 18 rfl rfl)
theorem dX4_judges_185 : decode cX4_judges 185 = .ok (.iaload, 1) := dk_46 (dk_at dksX4_judges_7 20 rfl rfl)
theorem dX4_judges_186 : decode cX4_judges 186 = .ok (.goto 4, 3) := dk_167 0 4 (dk_at dksX4_judges_7 21 rfl rfl)
theorem dX4_judges_189 : decode cX4_judges 189 = .ok (.iload_n 3, 1) := dk_29 (dk_at dksX4_judges_8 0 rfl rfl)
theorem dX4_judges_190 : decode cX4_judges 190 = .ok (.istore_n 3, 1) := dk_62 (dk_at dksX4_judges_8 1 rfl rfl)
theorem dX4_judges_191 : decode cX4_judges 191 = .ok (.iinc 6 1, 3) := dk_132 6 1 (dk_at dksX4_judges_8 2 rfl rfl)
theorem dX4_judges_194 : decode cX4_judges 194 = .ok (.goto (-163), 3) := dk_167 255 93 (dk_at dksX4_judges_8 5 rfl rfl)
theorem dX4_judges_197 : decode cX4_judges 197 = .ok (.aload_n 0, 1) := dk_42 (dk_at dksX4_judges_8 8 rfl rfl)
theorem dX4_judges_198 : decode cX4_judges 198 = .ok (.iload 4, 2) := dk_21 4 (dk_at dksX4_judges_8 9 rfl rfl)
theorem dX4_judges_200 : decode cX4_judges 200 = .ok (.ifCond .ne 7, 3) := dk_154 0 7 (dk_at dksX4_judges_8 11 rfl rfl)
theorem dX4_judges_203 : decode cX4_judges 203 = .ok (.iload_n 2, 1) := dk_28 (dk_at dksX4_judges_8 14 rfl rfl)
theorem dX4_judges_204 : decode cX4_judges 204 = .ok (.ifCond .ge 7, 3) := dk_156 0 7 (dk_at dksX4_judges_8 15 rfl rfl)
theorem dX4_judges_207 : decode cX4_judges 207 = .ok (.iconst 0, 1) := dk_3 (dk_at dksX4_judges_8 18 rfl rfl)
theorem dX4_judges_208 : decode cX4_judges 208 = .ok (.goto 17, 3) := dk_167 0 17 (dk_at dksX4_judges_8 19 rfl rfl)
theorem dX4_judges_211 : decode cX4_judges 211 = .ok (.iload_n 2, 1) := dk_28 (dk_at dksX4_judges_8 22 rfl rfl)
theorem dX4_judges_212 : decode cX4_judges 212 = .ok (.sipush 1000, 3) := dk_17 3 232 (dk_at dksX4_judges_9 0 rfl rfl)
theorem dX4_judges_215 : decode cX4_judges 215 = .ok (.if_icmp .le 9, 3) := dk_164 0 9 (dk_at dksX4_judges_9 3 rfl rfl)
theorem dX4_judges_218 : decode cX4_judges 218 = .ok (.sipush 1000, 3) := dk_17 3 232 (dk_at dksX4_judges_9 6 rfl rfl)
theorem dX4_judges_221 : decode cX4_judges 221 = .ok (.goto 4, 3) := dk_167 0 4 (dk_at dksX4_judges_9 9 rfl rfl)
theorem dX4_judges_224 : decode cX4_judges 224 = .ok (.iload_n 2, 1) := dk_28 (dk_at dksX4_judges_9 12 rfl rfl)
theorem dX4_judges_225 : decode cX4_judges 225 = .ok (.putfield 349, 3) := dk_181 1 93 (dk_at dksX4_judges_9 13 rfl rfl)
theorem dX4_judges_228 : decode cX4_judges 228 = .ok (.aload_n 0, 1) := dk_42 (dk_at dksX4_judges_9 16 rfl rfl)
theorem dX4_judges_229 : decode cX4_judges 229 = .ok (.iload 4, 2) := dk_21 4 (dk_at dksX4_judges_9 17 rfl rfl)
theorem dX4_judges_231 : decode cX4_judges 231 = .ok (.ifCond .ne 7, 3) := dk_154 0 7 (dk_at dksX4_judges_9 19 rfl rfl)
theorem dX4_judges_234 : decode cX4_judges 234 = .ok (.iload_n 3, 1) := dk_29 (dk_at dksX4_judges_9 22 rfl rfl)
theorem dX4_judges_235 : decode cX4_judges 235 = .ok (.ifCond .ge 7, 3) := dk_156 0 7 (dk_at dksX4_judges_10 0 rfl rfl)
theorem dX4_judges_238 : decode cX4_judges 238 = .ok (.iconst 0, 1) := dk_3 (dk_at dksX4_judges_10 3 rfl rfl)
theorem dX4_judges_239 : decode cX4_judges 239 = .ok (.goto 4, 3) := dk_167 0 4 (dk_at dksX4_judges_10 4 rfl rfl)
theorem dX4_judges_242 : decode cX4_judges 242 = .ok (.iload_n 3, 1) := dk_29 (dk_at dksX4_judges_10 7 rfl rfl)
theorem dX4_judges_243 : decode cX4_judges 243 = .ok (.putfield 352, 3) := dk_181 1 96 (dk_at dksX4_judges_10 8 rfl rfl)
theorem dX4_judges_246 : decode cX4_judges 246 = .ok (.return_, 1) := dk_177 (dk_at dksX4_judges_10 11 rfl rfl)
abbrev cX4_worth : ByteArray := prog_21_method_31_code
def yX4_worth : MethodName := ⟨RX4, "worth", "(I)I"⟩
def dkwX4_worth_7 : List UInt8 := [180, 0, 106, 28, 46, 184, 1, 89, 79, 132, 3, 1, 167, 255, 87, 42, 180, 0, 106, 3, 46, 172]
abbrev dktX4_worth_7 : List UInt8 := dkwX4_worth_7 ++ []
def dkwX4_worth_6 : List UInt8 := [167, 0, 33, 132, 2, 255, 42, 180, 0, 106, 28, 4, 100, 21, 4, 42, 180, 0, 106, 28, 4, 100, 46, 42]
abbrev dktX4_worth_6 : List UInt8 := dkwX4_worth_6 ++ dktX4_worth_7
def dkwX4_worth_5 : List UInt8 := [180, 0, 106, 28, 4, 100, 42, 180, 0, 106, 28, 4, 100, 46, 154, 0, 7, 4, 167, 0, 4, 3, 79]
abbrev dktX4_worth_5 : List UInt8 := dkwX4_worth_5 ++ dktX4_worth_6
def dkwX4_worth_4 : List UInt8 := [180, 0, 97, 29, 46, 122, 4, 126, 79, 132, 2, 1, 167, 0, 66, 21, 4, 8, 160, 0, 30, 42]
abbrev dktX4_worth_4 : List UInt8 := dkwX4_worth_4 ++ dktX4_worth_5
def dkwX4_worth_3 : List UInt8 := [160, 0, 17, 42, 180, 0, 103, 42, 180, 0, 97, 29, 46, 46, 167, 0, 16, 42, 180, 1, 86, 42]
abbrev dktX4_worth_3 : List UInt8 := dkwX4_worth_3 ++ dktX4_worth_4
def dkwX4_worth_2 : List UInt8 := [21, 4, 5, 160, 0, 17, 42, 180, 0, 100, 42, 180, 0, 97, 29, 46, 46, 167, 0, 36, 21, 4, 6]
abbrev dktX4_worth_2 : List UInt8 := dkwX4_worth_2 ++ dktX4_worth_3
def dkwX4_worth_1 : List UInt8 := [163, 0, 83, 42, 180, 0, 106, 28, 21, 4, 4, 160, 0, 12, 42, 180, 0, 97, 29, 46, 167, 0, 56]
abbrev dktX4_worth_1 : List UInt8 := dkwX4_worth_1 ++ dktX4_worth_2
def dkwX4_worth_0 : List UInt8 := [3, 61, 27, 62, 42, 180, 0, 94, 29, 46, 153, 0, 166, 42, 180, 0, 94, 29, 46, 54, 4, 21, 4, 7]
abbrev dktX4_worth_0 : List UInt8 := dkwX4_worth_0 ++ dktX4_worth_1
theorem dksX4_worth_0 : cX4_worth.data.toList.drop 0 = dktX4_worth_0 := by decide +kernel
theorem dksX4_worth_1 : cX4_worth.data.toList.drop 24 = dktX4_worth_1 := dk_seg dksX4_worth_0 24 rfl rfl
theorem dksX4_worth_2 : cX4_worth.data.toList.drop 47 = dktX4_worth_2 := dk_seg dksX4_worth_1 23 rfl rfl
theorem dksX4_worth_3 : cX4_worth.data.toList.drop 70 = dktX4_worth_3 := dk_seg dksX4_worth_2 23 rfl rfl
theorem dksX4_worth_4 : cX4_worth.data.toList.drop 92 = dktX4_worth_4 := dk_seg dksX4_worth_3 22 rfl rfl
theorem dksX4_worth_5 : cX4_worth.data.toList.drop 114 = dktX4_worth_5 := dk_seg dksX4_worth_4 22 rfl rfl
theorem dksX4_worth_6 : cX4_worth.data.toList.drop 137 = dktX4_worth_6 := dk_seg dksX4_worth_5 23 rfl rfl
theorem dksX4_worth_7 : cX4_worth.data.toList.drop 161 = dktX4_worth_7 := dk_seg dksX4_worth_6 24 rfl rfl
theorem dX4_worth_0 : decode cX4_worth 0 = .ok (.iconst 0, 1) := dk_3 (dk_at dksX4_worth_0 0 rfl rfl)
theorem dX4_worth_1 : decode cX4_worth 1 = .ok (.istore_n 2, 1) := dk_61 (dk_at dksX4_worth_0 1 rfl rfl)
theorem dX4_worth_2 : decode cX4_worth 2 = .ok (.iload_n 1, 1) := dk_27 (dk_at dksX4_worth_0 2 rfl rfl)
theorem dX4_worth_3 : decode cX4_worth 3 = .ok (.istore_n 3, 1) := dk_62 (dk_at dksX4_worth_0 3 rfl rfl)
theorem dX4_worth_4 : decode cX4_worth 4 = .ok (.aload_n 0, 1) := dk_42 (dk_at dksX4_worth_0 4 rfl rfl)
theorem dX4_worth_5 : decode cX4_worth 5 = .ok (.getfield 94, 3) := dk_180 0 94 (dk_at dksX4_worth_0 5 rfl rfl)
theorem dX4_worth_8 : decode cX4_worth 8 = .ok (.iload_n 3, 1) := dk_29 (dk_at dksX4_worth_0 8 rfl rfl)
theorem dX4_worth_9 : decode cX4_worth 9 = .ok (.iaload, 1) := dk_46 (dk_at dksX4_worth_0 9 rfl rfl)
theorem dX4_worth_10 : decode cX4_worth 10 = .ok (.ifCond .eq 166, 3) := dk_153 0 166 (dk_at dksX4_worth_0 10 rfl rfl)
theorem dX4_worth_13 : decode cX4_worth 13 = .ok (.aload_n 0, 1) := dk_42 (dk_at dksX4_worth_0 13 rfl rfl)
theorem dX4_worth_14 : decode cX4_worth 14 = .ok (.getfield 94, 3) := dk_180 0 94 (dk_at dksX4_worth_0 14 rfl rfl)
theorem dX4_worth_17 : decode cX4_worth 17 = .ok (.iload_n 3, 1) := dk_29 (dk_at dksX4_worth_0 17 rfl rfl)
theorem dX4_worth_18 : decode cX4_worth 18 = .ok (.iaload, 1) := dk_46 (dk_at dksX4_worth_0 18 rfl rfl)
theorem dX4_worth_19 : decode cX4_worth 19 = .ok (.istore 4, 2) := dk_54 4 (dk_at dksX4_worth_0 19 rfl rfl)
theorem dX4_worth_21 : decode cX4_worth 21 = .ok (.iload 4, 2) := dk_21 4 (dk_at dksX4_worth_0 21 rfl rfl)
theorem dX4_worth_23 : decode cX4_worth 23 = .ok (.iconst 4, 1) := dk_7 (dk_at dksX4_worth_0 23 rfl rfl)
theorem dX4_worth_24 : decode cX4_worth 24 = .ok (.if_icmp .gt 83, 3) := dk_163 0 83 (dk_at dksX4_worth_1 0 rfl rfl)
theorem dX4_worth_27 : decode cX4_worth 27 = .ok (.aload_n 0, 1) := dk_42 (dk_at dksX4_worth_1 3 rfl rfl)
theorem dX4_worth_28 : decode cX4_worth 28 = .ok (.getfield 106, 3) := dk_180 0 106 (dk_at dksX4_worth_1 4 rfl rfl)
theorem dX4_worth_31 : decode cX4_worth 31 = .ok (.iload_n 2, 1) := dk_28 (dk_at dksX4_worth_1 7 rfl rfl)
theorem dX4_worth_32 : decode cX4_worth 32 = .ok (.iload 4, 2) := dk_21 4 (dk_at dksX4_worth_1 8 rfl rfl)
theorem dX4_worth_34 : decode cX4_worth 34 = .ok (.iconst 1, 1) := dk_4 (dk_at dksX4_worth_1 10 rfl rfl)
theorem dX4_worth_35 : decode cX4_worth 35 = .ok (.if_icmp .ne 12, 3) := dk_160 0 12 (dk_at dksX4_worth_1 11 rfl rfl)
theorem dX4_worth_38 : decode cX4_worth 38 = .ok (.aload_n 0, 1) := dk_42 (dk_at dksX4_worth_1 14 rfl rfl)
theorem dX4_worth_39 : decode cX4_worth 39 = .ok (.getfield 97, 3) := dk_180 0 97 (dk_at dksX4_worth_1 15 rfl rfl)
theorem dX4_worth_42 : decode cX4_worth 42 = .ok (.iload_n 3, 1) := dk_29 (dk_at dksX4_worth_1 18 rfl rfl)
theorem dX4_worth_43 : decode cX4_worth 43 = .ok (.iaload, 1) := dk_46 (dk_at dksX4_worth_1 19 rfl rfl)
theorem dX4_worth_44 : decode cX4_worth 44 = .ok (.goto 56, 3) := dk_167 0 56 (dk_at dksX4_worth_1 20 rfl rfl)
theorem dX4_worth_47 : decode cX4_worth 47 = .ok (.iload 4, 2) := dk_21 4 (dk_at dksX4_worth_2 0 rfl rfl)
theorem dX4_worth_49 : decode cX4_worth 49 = .ok (.iconst 2, 1) := dk_5 (dk_at dksX4_worth_2 2 rfl rfl)
theorem dX4_worth_50 : decode cX4_worth 50 = .ok (.if_icmp .ne 17, 3) := dk_160 0 17 (dk_at dksX4_worth_2 3 rfl rfl)
theorem dX4_worth_53 : decode cX4_worth 53 = .ok (.aload_n 0, 1) := dk_42 (dk_at dksX4_worth_2 6 rfl rfl)
theorem dX4_worth_54 : decode cX4_worth 54 = .ok (.getfield 100, 3) := dk_180 0 100 (dk_at dksX4_worth_2 7 rfl rfl)
theorem dX4_worth_57 : decode cX4_worth 57 = .ok (.aload_n 0, 1) := dk_42 (dk_at dksX4_worth_2 10 rfl rfl)
theorem dX4_worth_58 : decode cX4_worth 58 = .ok (.getfield 97, 3) := dk_180 0 97 (dk_at dksX4_worth_2 11 rfl rfl)
theorem dX4_worth_61 : decode cX4_worth 61 = .ok (.iload_n 3, 1) := dk_29 (dk_at dksX4_worth_2 14 rfl rfl)
theorem dX4_worth_62 : decode cX4_worth 62 = .ok (.iaload, 1) := dk_46 (dk_at dksX4_worth_2 15 rfl rfl)
theorem dX4_worth_63 : decode cX4_worth 63 = .ok (.iaload, 1) := dk_46 (dk_at dksX4_worth_2 16 rfl rfl)
theorem dX4_worth_64 : decode cX4_worth 64 = .ok (.goto 36, 3) := dk_167 0 36 (dk_at dksX4_worth_2 17 rfl rfl)
theorem dX4_worth_67 : decode cX4_worth 67 = .ok (.iload 4, 2) := dk_21 4 (dk_at dksX4_worth_2 20 rfl rfl)
theorem dX4_worth_69 : decode cX4_worth 69 = .ok (.iconst 3, 1) := dk_6 (dk_at dksX4_worth_2 22 rfl rfl)
theorem dX4_worth_70 : decode cX4_worth 70 = .ok (.if_icmp .ne 17, 3) := dk_160 0 17 (dk_at dksX4_worth_3 0 rfl rfl)
theorem dX4_worth_73 : decode cX4_worth 73 = .ok (.aload_n 0, 1) := dk_42 (dk_at dksX4_worth_3 3 rfl rfl)
theorem dX4_worth_74 : decode cX4_worth 74 = .ok (.getfield 103, 3) := dk_180 0 103 (dk_at dksX4_worth_3 4 rfl rfl)
theorem dX4_worth_77 : decode cX4_worth 77 = .ok (.aload_n 0, 1) := dk_42 (dk_at dksX4_worth_3 7 rfl rfl)
theorem dX4_worth_78 : decode cX4_worth 78 = .ok (.getfield 97, 3) := dk_180 0 97 (dk_at dksX4_worth_3 8 rfl rfl)
theorem dX4_worth_81 : decode cX4_worth 81 = .ok (.iload_n 3, 1) := dk_29 (dk_at dksX4_worth_3 11 rfl rfl)
theorem dX4_worth_82 : decode cX4_worth 82 = .ok (.iaload, 1) := dk_46 (dk_at dksX4_worth_3 12 rfl rfl)
theorem dX4_worth_83 : decode cX4_worth 83 = .ok (.iaload, 1) := dk_46 (dk_at dksX4_worth_3 13 rfl rfl)
theorem dX4_worth_84 : decode cX4_worth 84 = .ok (.goto 16, 3) := dk_167 0 16 (dk_at dksX4_worth_3 14 rfl rfl)
theorem dX4_worth_87 : decode cX4_worth 87 = .ok (.aload_n 0, 1) := dk_42 (dk_at dksX4_worth_3 17 rfl rfl)
theorem dX4_worth_88 : decode cX4_worth 88 = .ok (.getfield 342, 3) := dk_180 1 86 (dk_at dksX4_worth_3 18 rfl rfl)
theorem dX4_worth_91 : decode cX4_worth 91 = .ok (.aload_n 0, 1) := dk_42 (dk_at dksX4_worth_3 21 rfl rfl)
theorem dX4_worth_92 : decode cX4_worth 92 = .ok (.getfield 97, 3) := dk_180 0 97 (dk_at dksX4_worth_4 0 rfl rfl)
theorem dX4_worth_95 : decode cX4_worth 95 = .ok (.iload_n 3, 1) := dk_29 (dk_at dksX4_worth_4 3 rfl rfl)
theorem dX4_worth_96 : decode cX4_worth 96 = .ok (.iaload, 1) := dk_46 (dk_at dksX4_worth_4 4 rfl rfl)
theorem dX4_worth_97 : decode cX4_worth 97 = .ok (.ishr, 1) := dk_122 (dk_at dksX4_worth_4 5 rfl rfl)
theorem dX4_worth_98 : decode cX4_worth 98 = .ok (.iconst 1, 1) := dk_4 (dk_at dksX4_worth_4 6 rfl rfl)
theorem dX4_worth_99 : decode cX4_worth 99 = .ok (.iand, 1) := dk_126 (dk_at dksX4_worth_4 7 rfl rfl)
theorem dX4_worth_100 : decode cX4_worth 100 = .ok (.iastore, 1) := dk_79 (dk_at dksX4_worth_4 8 rfl rfl)
theorem dX4_worth_101 : decode cX4_worth 101 = .ok (.iinc 2 1, 3) := dk_132 2 1 (dk_at dksX4_worth_4 9 rfl rfl)
theorem dX4_worth_104 : decode cX4_worth 104 = .ok (.goto 66, 3) := dk_167 0 66 (dk_at dksX4_worth_4 12 rfl rfl)
theorem dX4_worth_107 : decode cX4_worth 107 = .ok (.iload 4, 2) := dk_21 4 (dk_at dksX4_worth_4 15 rfl rfl)
theorem dX4_worth_109 : decode cX4_worth 109 = .ok (.iconst 5, 1) := dk_8 (dk_at dksX4_worth_4 17 rfl rfl)
theorem dX4_worth_110 : decode cX4_worth 110 = .ok (.if_icmp .ne 30, 3) := dk_160 0 30 (dk_at dksX4_worth_4 18 rfl rfl)
theorem dX4_worth_113 : decode cX4_worth 113 = .ok (.aload_n 0, 1) := dk_42 (dk_at dksX4_worth_4 21 rfl rfl)
theorem dX4_worth_114 : decode cX4_worth 114 = .ok (.getfield 106, 3) := dk_180 0 106 (dk_at dksX4_worth_5 0 rfl rfl)
theorem dX4_worth_117 : decode cX4_worth 117 = .ok (.iload_n 2, 1) := dk_28 (dk_at dksX4_worth_5 3 rfl rfl)
theorem dX4_worth_118 : decode cX4_worth 118 = .ok (.iconst 1, 1) := dk_4 (dk_at dksX4_worth_5 4 rfl rfl)
theorem dX4_worth_119 : decode cX4_worth 119 = .ok (.isub, 1) := dk_100 (dk_at dksX4_worth_5 5 rfl rfl)
theorem dX4_worth_120 : decode cX4_worth 120 = .ok (.aload_n 0, 1) := dk_42 (dk_at dksX4_worth_5 6 rfl rfl)
theorem dX4_worth_121 : decode cX4_worth 121 = .ok (.getfield 106, 3) := dk_180 0 106 (dk_at dksX4_worth_5 7 rfl rfl)
theorem dX4_worth_124 : decode cX4_worth 124 = .ok (.iload_n 2, 1) := dk_28 (dk_at dksX4_worth_5 10 rfl rfl)
theorem dX4_worth_125 : decode cX4_worth 125 = .ok (.iconst 1, 1) := dk_4 (dk_at dksX4_worth_5 11 rfl rfl)
theorem dX4_worth_126 : decode cX4_worth 126 = .ok (.isub, 1) := dk_100 (dk_at dksX4_worth_5 12 rfl rfl)
theorem dX4_worth_127 : decode cX4_worth 127 = .ok (.iaload, 1) := dk_46 (dk_at dksX4_worth_5 13 rfl rfl)
theorem dX4_worth_128 : decode cX4_worth 128 = .ok (.ifCond .ne 7, 3) := dk_154 0 7 (dk_at dksX4_worth_5 14 rfl rfl)
theorem dX4_worth_131 : decode cX4_worth 131 = .ok (.iconst 1, 1) := dk_4 (dk_at dksX4_worth_5 17 rfl rfl)
theorem dX4_worth_132 : decode cX4_worth 132 = .ok (.goto 4, 3) := dk_167 0 4 (dk_at dksX4_worth_5 18 rfl rfl)
theorem dX4_worth_135 : decode cX4_worth 135 = .ok (.iconst 0, 1) := dk_3 (dk_at dksX4_worth_5 21 rfl rfl)
theorem dX4_worth_136 : decode cX4_worth 136 = .ok (.iastore, 1) := dk_79 (dk_at dksX4_worth_5 22 rfl rfl)
theorem dX4_worth_137 : decode cX4_worth 137 = .ok (.goto 33, 3) := dk_167 0 33 (dk_at dksX4_worth_6 0 rfl rfl)
theorem dX4_worth_140 : decode cX4_worth 140 = .ok (.iinc 2 (-1), 3) := dk_132 2 255 (dk_at dksX4_worth_6 3 rfl rfl)
theorem dX4_worth_143 : decode cX4_worth 143 = .ok (.aload_n 0, 1) := dk_42 (dk_at dksX4_worth_6 6 rfl rfl)
theorem dX4_worth_144 : decode cX4_worth 144 = .ok (.getfield 106, 3) := dk_180 0 106 (dk_at dksX4_worth_6 7 rfl rfl)
theorem dX4_worth_147 : decode cX4_worth 147 = .ok (.iload_n 2, 1) := dk_28 (dk_at dksX4_worth_6 10 rfl rfl)
theorem dX4_worth_148 : decode cX4_worth 148 = .ok (.iconst 1, 1) := dk_4 (dk_at dksX4_worth_6 11 rfl rfl)
theorem dX4_worth_149 : decode cX4_worth 149 = .ok (.isub, 1) := dk_100 (dk_at dksX4_worth_6 12 rfl rfl)
theorem dX4_worth_150 : decode cX4_worth 150 = .ok (.iload 4, 2) := dk_21 4 (dk_at dksX4_worth_6 13 rfl rfl)
theorem dX4_worth_152 : decode cX4_worth 152 = .ok (.aload_n 0, 1) := dk_42 (dk_at dksX4_worth_6 15 rfl rfl)
theorem dX4_worth_153 : decode cX4_worth 153 = .ok (.getfield 106, 3) := dk_180 0 106 (dk_at dksX4_worth_6 16 rfl rfl)
theorem dX4_worth_156 : decode cX4_worth 156 = .ok (.iload_n 2, 1) := dk_28 (dk_at dksX4_worth_6 19 rfl rfl)
theorem dX4_worth_157 : decode cX4_worth 157 = .ok (.iconst 1, 1) := dk_4 (dk_at dksX4_worth_6 20 rfl rfl)
theorem dX4_worth_158 : decode cX4_worth 158 = .ok (.isub, 1) := dk_100 (dk_at dksX4_worth_6 21 rfl rfl)
theorem dX4_worth_159 : decode cX4_worth 159 = .ok (.iaload, 1) := dk_46 (dk_at dksX4_worth_6 22 rfl rfl)
theorem dX4_worth_160 : decode cX4_worth 160 = .ok (.aload_n 0, 1) := dk_42 (dk_at dksX4_worth_6 23 rfl rfl)
theorem dX4_worth_161 : decode cX4_worth 161 = .ok (.getfield 106, 3) := dk_180 0 106 (dk_at dksX4_worth_7 0 rfl rfl)
theorem dX4_worth_164 : decode cX4_worth 164 = .ok (.iload_n 2, 1) := dk_28 (dk_at dksX4_worth_7 3 rfl rfl)
theorem dX4_worth_165 : decode cX4_worth 165 = .ok (.iaload, 1) := dk_46 (dk_at dksX4_worth_7 4 rfl rfl)
theorem dX4_worth_166 : decode cX4_worth 166 = .ok (.invokestatic 345, 3) := dk_184 1 89 (dk_at dksX4_worth_7 5 rfl rfl)
theorem dX4_worth_169 : decode cX4_worth 169 = .ok (.iastore, 1) := dk_79 (dk_at dksX4_worth_7 8 rfl rfl)
theorem dX4_worth_170 : decode cX4_worth 170 = .ok (.iinc 3 1, 3) := dk_132 3 1 (dk_at dksX4_worth_7 9 rfl rfl)
theorem dX4_worth_173 : decode cX4_worth 173 = .ok (.goto (-169), 3) := dk_167 255 87 (dk_at dksX4_worth_7 12 rfl rfl)
theorem dX4_worth_176 : decode cX4_worth 176 = .ok (.aload_n 0, 1) := dk_42 (dk_at dksX4_worth_7 15 rfl rfl)
theorem dX4_worth_177 : decode cX4_worth 177 = .ok (.getfield 106, 3) := dk_180 0 106 (dk_at dksX4_worth_7 16 rfl rfl)
theorem dX4_worth_180 : decode cX4_worth 180 = .ok (.iconst 0, 1) := dk_3 (dk_at dksX4_worth_7 19 rfl rfl)
theorem dX4_worth_181 : decode cX4_worth 181 = .ok (.iaload, 1) := dk_46 (dk_at dksX4_worth_7 20 rfl rfl)
theorem dX4_worth_182 : decode cX4_worth 182 = .ok (.ireturn, 1) := dk_172 (dk_at dksX4_worth_7 21 rfl rfl)
abbrev cX4_both : ByteArray := prog_21_method_32_code
def yX4_both : MethodName := ⟨RX4, "both", "(III)I"⟩
def dkwX4_both_4 : List UInt8 := [27, 154, 0, 7, 28, 153, 0, 7, 4, 167, 0, 4, 3, 172]
abbrev dktX4_both_4 : List UInt8 := dkwX4_both_4 ++ []
def dkwX4_both_3 : List UInt8 := [28, 160, 0, 7, 4, 167, 0, 4, 3, 172, 27, 153, 0, 11, 28, 153, 0, 7, 4, 167, 0, 4, 3, 172]
abbrev dktX4_both_3 : List UInt8 := dkwX4_both_3 ++ dktX4_both_4
def dkwX4_both_2 : List UInt8 := [27, 28, 96, 172, 27, 28, 100, 172, 27, 28, 104, 172, 27, 28, 162, 0, 7, 4, 167, 0, 4, 3, 172, 27]
abbrev dktX4_both_2 : List UInt8 := dkwX4_both_2 ++ dktX4_both_3
def dkwX4_both_1 : List UInt8 := [170, 0, 0, 0, 0, 0, 87, 0, 0, 0, 6, 0, 0, 0, 11, 0, 0, 0, 39, 0, 0, 0, 43, 0, 0, 0, 47, 0, 0, 0, 51, 0, 0, 0, 62, 0, 0, 0, 73]
abbrev dktX4_both_1 : List UInt8 := dkwX4_both_1 ++ dktX4_both_2
def dkwX4_both_0 : List UInt8 := [26]
abbrev dktX4_both_0 : List UInt8 := dkwX4_both_0 ++ dktX4_both_1
theorem dksX4_both_0 : cX4_both.data.toList.drop 0 = dktX4_both_0 := by decide +kernel
theorem dksX4_both_1 : cX4_both.data.toList.drop 1 = dktX4_both_1 := dk_seg dksX4_both_0 1 rfl rfl
theorem dksX4_both_2 : cX4_both.data.toList.drop 40 = dktX4_both_2 := dk_seg dksX4_both_1 39 rfl rfl
theorem dksX4_both_3 : cX4_both.data.toList.drop 64 = dktX4_both_3 := dk_seg dksX4_both_2 24 rfl rfl
theorem dksX4_both_4 : cX4_both.data.toList.drop 88 = dktX4_both_4 := dk_seg dksX4_both_3 24 rfl rfl
theorem dX4_both_0 : decode cX4_both 0 = .ok (.iload_n 0, 1) := dk_26 (dk_at dksX4_both_0 0 rfl rfl)
theorem dX4_both_1 : decode cX4_both 1 = .ok (.tableswitch 87 6 11 #[39, 43, 47, 51, 62, 73], 39) := by decide +kernel
theorem dX4_both_40 : decode cX4_both 40 = .ok (.iload_n 1, 1) := dk_27 (dk_at dksX4_both_2 0 rfl rfl)
theorem dX4_both_41 : decode cX4_both 41 = .ok (.iload_n 2, 1) := dk_28 (dk_at dksX4_both_2 1 rfl rfl)
theorem dX4_both_42 : decode cX4_both 42 = .ok (.iadd, 1) := dk_96 (dk_at dksX4_both_2 2 rfl rfl)
theorem dX4_both_43 : decode cX4_both 43 = .ok (.ireturn, 1) := dk_172 (dk_at dksX4_both_2 3 rfl rfl)
theorem dX4_both_44 : decode cX4_both 44 = .ok (.iload_n 1, 1) := dk_27 (dk_at dksX4_both_2 4 rfl rfl)
theorem dX4_both_45 : decode cX4_both 45 = .ok (.iload_n 2, 1) := dk_28 (dk_at dksX4_both_2 5 rfl rfl)
theorem dX4_both_46 : decode cX4_both 46 = .ok (.isub, 1) := dk_100 (dk_at dksX4_both_2 6 rfl rfl)
theorem dX4_both_47 : decode cX4_both 47 = .ok (.ireturn, 1) := dk_172 (dk_at dksX4_both_2 7 rfl rfl)
theorem dX4_both_48 : decode cX4_both 48 = .ok (.iload_n 1, 1) := dk_27 (dk_at dksX4_both_2 8 rfl rfl)
theorem dX4_both_49 : decode cX4_both 49 = .ok (.iload_n 2, 1) := dk_28 (dk_at dksX4_both_2 9 rfl rfl)
theorem dX4_both_50 : decode cX4_both 50 = .ok (.imul, 1) := dk_104 (dk_at dksX4_both_2 10 rfl rfl)
theorem dX4_both_51 : decode cX4_both 51 = .ok (.ireturn, 1) := dk_172 (dk_at dksX4_both_2 11 rfl rfl)
theorem dX4_both_52 : decode cX4_both 52 = .ok (.iload_n 1, 1) := dk_27 (dk_at dksX4_both_2 12 rfl rfl)
theorem dX4_both_53 : decode cX4_both 53 = .ok (.iload_n 2, 1) := dk_28 (dk_at dksX4_both_2 13 rfl rfl)
theorem dX4_both_54 : decode cX4_both 54 = .ok (.if_icmp .ge 7, 3) := dk_162 0 7 (dk_at dksX4_both_2 14 rfl rfl)
theorem dX4_both_57 : decode cX4_both 57 = .ok (.iconst 1, 1) := dk_4 (dk_at dksX4_both_2 17 rfl rfl)
theorem dX4_both_58 : decode cX4_both 58 = .ok (.goto 4, 3) := dk_167 0 4 (dk_at dksX4_both_2 18 rfl rfl)
theorem dX4_both_61 : decode cX4_both 61 = .ok (.iconst 0, 1) := dk_3 (dk_at dksX4_both_2 21 rfl rfl)
theorem dX4_both_62 : decode cX4_both 62 = .ok (.ireturn, 1) := dk_172 (dk_at dksX4_both_2 22 rfl rfl)
theorem dX4_both_63 : decode cX4_both 63 = .ok (.iload_n 1, 1) := dk_27 (dk_at dksX4_both_2 23 rfl rfl)
theorem dX4_both_64 : decode cX4_both 64 = .ok (.iload_n 2, 1) := dk_28 (dk_at dksX4_both_3 0 rfl rfl)
theorem dX4_both_65 : decode cX4_both 65 = .ok (.if_icmp .ne 7, 3) := dk_160 0 7 (dk_at dksX4_both_3 1 rfl rfl)
theorem dX4_both_68 : decode cX4_both 68 = .ok (.iconst 1, 1) := dk_4 (dk_at dksX4_both_3 4 rfl rfl)
theorem dX4_both_69 : decode cX4_both 69 = .ok (.goto 4, 3) := dk_167 0 4 (dk_at dksX4_both_3 5 rfl rfl)
theorem dX4_both_72 : decode cX4_both 72 = .ok (.iconst 0, 1) := dk_3 (dk_at dksX4_both_3 8 rfl rfl)
theorem dX4_both_73 : decode cX4_both 73 = .ok (.ireturn, 1) := dk_172 (dk_at dksX4_both_3 9 rfl rfl)
theorem dX4_both_74 : decode cX4_both 74 = .ok (.iload_n 1, 1) := dk_27 (dk_at dksX4_both_3 10 rfl rfl)
theorem dX4_both_75 : decode cX4_both 75 = .ok (.ifCond .eq 11, 3) := dk_153 0 11 (dk_at dksX4_both_3 11 rfl rfl)
theorem dX4_both_78 : decode cX4_both 78 = .ok (.iload_n 2, 1) := dk_28 (dk_at dksX4_both_3 14 rfl rfl)
theorem dX4_both_79 : decode cX4_both 79 = .ok (.ifCond .eq 7, 3) := dk_153 0 7 (dk_at dksX4_both_3 15 rfl rfl)
theorem dX4_both_82 : decode cX4_both 82 = .ok (.iconst 1, 1) := dk_4 (dk_at dksX4_both_3 18 rfl rfl)
theorem dX4_both_83 : decode cX4_both 83 = .ok (.goto 4, 3) := dk_167 0 4 (dk_at dksX4_both_3 19 rfl rfl)
theorem dX4_both_86 : decode cX4_both 86 = .ok (.iconst 0, 1) := dk_3 (dk_at dksX4_both_3 22 rfl rfl)
theorem dX4_both_87 : decode cX4_both 87 = .ok (.ireturn, 1) := dk_172 (dk_at dksX4_both_3 23 rfl rfl)
theorem dX4_both_88 : decode cX4_both 88 = .ok (.iload_n 1, 1) := dk_27 (dk_at dksX4_both_4 0 rfl rfl)
theorem dX4_both_89 : decode cX4_both 89 = .ok (.ifCond .ne 7, 3) := dk_154 0 7 (dk_at dksX4_both_4 1 rfl rfl)
theorem dX4_both_92 : decode cX4_both 92 = .ok (.iload_n 2, 1) := dk_28 (dk_at dksX4_both_4 4 rfl rfl)
theorem dX4_both_93 : decode cX4_both 93 = .ok (.ifCond .eq 7, 3) := dk_153 0 7 (dk_at dksX4_both_4 5 rfl rfl)
theorem dX4_both_96 : decode cX4_both 96 = .ok (.iconst 1, 1) := dk_4 (dk_at dksX4_both_4 8 rfl rfl)
theorem dX4_both_97 : decode cX4_both 97 = .ok (.goto 4, 3) := dk_167 0 4 (dk_at dksX4_both_4 9 rfl rfl)
theorem dX4_both_100 : decode cX4_both 100 = .ok (.iconst 0, 1) := dk_3 (dk_at dksX4_both_4 12 rfl rfl)
theorem dX4_both_101 : decode cX4_both 101 = .ok (.ireturn, 1) := dk_172 (dk_at dksX4_both_4 13 rfl rfl)
abbrev cX4_isAlone : ByteArray := prog_21_method_57_code
def yX4_isAlone : MethodName := ⟨RX4, "isAlone", "(I)Z"⟩
def dkwX4_isAlone_4 : List UInt8 := [21, 4, 4, 126, 4, 159, 0, 8, 21, 4, 154, 0, 7, 4, 167, 0, 4, 3, 172]
abbrev dktX4_isAlone_4 : List UInt8 := dkwX4_isAlone_4 ++ []
def dkwX4_isAlone_3 : List UInt8 := [27, 46, 155, 0, 22, 42, 180, 0, 152, 27, 46, 42, 180, 0, 143, 27, 46, 29, 184, 1, 102, 153, 0, 20]
abbrev dktX4_isAlone_3 : List UInt8 := dkwX4_isAlone_3 ++ dktX4_isAlone_4
def dkwX4_isAlone_2 : List UInt8 := [180, 0, 121, 28, 46, 163, 0, 7, 4, 167, 0, 4, 3, 54, 5, 21, 5, 153, 0, 48, 42, 180, 0, 152]
abbrev dktX4_isAlone_2 : List UInt8 := dkwX4_isAlone_2 ++ dktX4_isAlone_3
def dkwX4_isAlone_1 : List UInt8 := [27, 182, 1, 150, 54, 4, 42, 180, 0, 143, 27, 46, 42, 180, 0, 118, 28, 46, 161, 0, 17, 29, 42]
abbrev dktX4_isAlone_1 : List UInt8 := dkwX4_isAlone_1 ++ dktX4_isAlone_2
def dkwX4_isAlone_0 : List UInt8 := [42, 180, 0, 134, 27, 46, 61, 42, 180, 0, 143, 27, 46, 42, 180, 0, 146, 27, 46, 96, 4, 100, 62, 42]
abbrev dktX4_isAlone_0 : List UInt8 := dkwX4_isAlone_0 ++ dktX4_isAlone_1
theorem dksX4_isAlone_0 : cX4_isAlone.data.toList.drop 0 = dktX4_isAlone_0 := by decide +kernel
theorem dksX4_isAlone_1 : cX4_isAlone.data.toList.drop 24 = dktX4_isAlone_1 := dk_seg dksX4_isAlone_0 24 rfl rfl
theorem dksX4_isAlone_2 : cX4_isAlone.data.toList.drop 47 = dktX4_isAlone_2 := dk_seg dksX4_isAlone_1 23 rfl rfl
theorem dksX4_isAlone_3 : cX4_isAlone.data.toList.drop 71 = dktX4_isAlone_3 := dk_seg dksX4_isAlone_2 24 rfl rfl
theorem dksX4_isAlone_4 : cX4_isAlone.data.toList.drop 95 = dktX4_isAlone_4 := dk_seg dksX4_isAlone_3 24 rfl rfl
theorem dX4_isAlone_0 : decode cX4_isAlone 0 = .ok (.aload_n 0, 1) := dk_42 (dk_at dksX4_isAlone_0 0 rfl rfl)
theorem dX4_isAlone_1 : decode cX4_isAlone 1 = .ok (.getfield 134, 3) := dk_180 0 134 (dk_at dksX4_isAlone_0 1 rfl rfl)
theorem dX4_isAlone_4 : decode cX4_isAlone 4 = .ok (.iload_n 1, 1) := dk_27 (dk_at dksX4_isAlone_0 4 rfl rfl)
theorem dX4_isAlone_5 : decode cX4_isAlone 5 = .ok (.iaload, 1) := dk_46 (dk_at dksX4_isAlone_0 5 rfl rfl)
theorem dX4_isAlone_6 : decode cX4_isAlone 6 = .ok (.istore_n 2, 1) := dk_61 (dk_at dksX4_isAlone_0 6 rfl rfl)
theorem dX4_isAlone_7 : decode cX4_isAlone 7 = .ok (.aload_n 0, 1) := dk_42 (dk_at dksX4_isAlone_0 7 rfl rfl)
theorem dX4_isAlone_8 : decode cX4_isAlone 8 = .ok (.getfield 143, 3) := dk_180 0 143 (dk_at dksX4_isAlone_0 8 rfl rfl)
theorem dX4_isAlone_11 : decode cX4_isAlone 11 = .ok (.iload_n 1, 1) := dk_27 (dk_at dksX4_isAlone_0 11 rfl rfl)
theorem dX4_isAlone_12 : decode cX4_isAlone 12 = .ok (.iaload, 1) := dk_46 (dk_at dksX4_isAlone_0 12 rfl rfl)
theorem dX4_isAlone_13 : decode cX4_isAlone 13 = .ok (.aload_n 0, 1) := dk_42 (dk_at dksX4_isAlone_0 13 rfl rfl)
theorem dX4_isAlone_14 : decode cX4_isAlone 14 = .ok (.getfield 146, 3) := dk_180 0 146 (dk_at dksX4_isAlone_0 14 rfl rfl)
theorem dX4_isAlone_17 : decode cX4_isAlone 17 = .ok (.iload_n 1, 1) := dk_27 (dk_at dksX4_isAlone_0 17 rfl rfl)
theorem dX4_isAlone_18 : decode cX4_isAlone 18 = .ok (.iaload, 1) := dk_46 (dk_at dksX4_isAlone_0 18 rfl rfl)
theorem dX4_isAlone_19 : decode cX4_isAlone 19 = .ok (.iadd, 1) := dk_96 (dk_at dksX4_isAlone_0 19 rfl rfl)
theorem dX4_isAlone_20 : decode cX4_isAlone 20 = .ok (.iconst 1, 1) := dk_4 (dk_at dksX4_isAlone_0 20 rfl rfl)
theorem dX4_isAlone_21 : decode cX4_isAlone 21 = .ok (.isub, 1) := dk_100 (dk_at dksX4_isAlone_0 21 rfl rfl)
theorem dX4_isAlone_22 : decode cX4_isAlone 22 = .ok (.istore_n 3, 1) := dk_62 (dk_at dksX4_isAlone_0 22 rfl rfl)
theorem dX4_isAlone_23 : decode cX4_isAlone 23 = .ok (.aload_n 0, 1) := dk_42 (dk_at dksX4_isAlone_0 23 rfl rfl)
theorem dX4_isAlone_24 : decode cX4_isAlone 24 = .ok (.iload_n 1, 1) := dk_27 (dk_at dksX4_isAlone_1 0 rfl rfl)
theorem dX4_isAlone_25 : decode cX4_isAlone 25 = .ok (.invokevirtual 406, 3) := dk_182 1 150 (dk_at dksX4_isAlone_1 1 rfl rfl)
theorem dX4_isAlone_28 : decode cX4_isAlone 28 = .ok (.istore 4, 2) := dk_54 4 (dk_at dksX4_isAlone_1 4 rfl rfl)
theorem dX4_isAlone_30 : decode cX4_isAlone 30 = .ok (.aload_n 0, 1) := dk_42 (dk_at dksX4_isAlone_1 6 rfl rfl)
theorem dX4_isAlone_31 : decode cX4_isAlone 31 = .ok (.getfield 143, 3) := dk_180 0 143 (dk_at dksX4_isAlone_1 7 rfl rfl)
theorem dX4_isAlone_34 : decode cX4_isAlone 34 = .ok (.iload_n 1, 1) := dk_27 (dk_at dksX4_isAlone_1 10 rfl rfl)
theorem dX4_isAlone_35 : decode cX4_isAlone 35 = .ok (.iaload, 1) := dk_46 (dk_at dksX4_isAlone_1 11 rfl rfl)
theorem dX4_isAlone_36 : decode cX4_isAlone 36 = .ok (.aload_n 0, 1) := dk_42 (dk_at dksX4_isAlone_1 12 rfl rfl)
theorem dX4_isAlone_37 : decode cX4_isAlone 37 = .ok (.getfield 118, 3) := dk_180 0 118 (dk_at dksX4_isAlone_1 13 rfl rfl)
theorem dX4_isAlone_40 : decode cX4_isAlone 40 = .ok (.iload_n 2, 1) := dk_28 (dk_at dksX4_isAlone_1 16 rfl rfl)
theorem dX4_isAlone_41 : decode cX4_isAlone 41 = .ok (.iaload, 1) := dk_46 (dk_at dksX4_isAlone_1 17 rfl rfl)
theorem dX4_isAlone_42 : decode cX4_isAlone 42 = .ok (.if_icmp .lt 17, 3) := dk_161 0 17 (dk_at dksX4_isAlone_1 18 rfl rfl)
theorem dX4_isAlone_45 : decode cX4_isAlone 45 = .ok (.iload_n 3, 1) := dk_29 (dk_at dksX4_isAlone_1 21 rfl rfl)
theorem dX4_isAlone_46 : decode cX4_isAlone 46 = .ok (.aload_n 0, 1) := dk_42 (dk_at dksX4_isAlone_1 22 rfl rfl)
theorem dX4_isAlone_47 : decode cX4_isAlone 47 = .ok (.getfield 121, 3) := dk_180 0 121 (dk_at dksX4_isAlone_2 0 rfl rfl)
theorem dX4_isAlone_50 : decode cX4_isAlone 50 = .ok (.iload_n 2, 1) := dk_28 (dk_at dksX4_isAlone_2 3 rfl rfl)
theorem dX4_isAlone_51 : decode cX4_isAlone 51 = .ok (.iaload, 1) := dk_46 (dk_at dksX4_isAlone_2 4 rfl rfl)
theorem dX4_isAlone_52 : decode cX4_isAlone 52 = .ok (.if_icmp .gt 7, 3) := dk_163 0 7 (dk_at dksX4_isAlone_2 5 rfl rfl)
theorem dX4_isAlone_55 : decode cX4_isAlone 55 = .ok (.iconst 1, 1) := dk_4 (dk_at dksX4_isAlone_2 8 rfl rfl)
theorem dX4_isAlone_56 : decode cX4_isAlone 56 = .ok (.goto 4, 3) := dk_167 0 4 (dk_at dksX4_isAlone_2 9 rfl rfl)
theorem dX4_isAlone_59 : decode cX4_isAlone 59 = .ok (.iconst 0, 1) := dk_3 (dk_at dksX4_isAlone_2 12 rfl rfl)
theorem dX4_isAlone_60 : decode cX4_isAlone 60 = .ok (.istore 5, 2) := dk_54 5 (dk_at dksX4_isAlone_2 13 rfl rfl)
theorem dX4_isAlone_62 : decode cX4_isAlone 62 = .ok (.iload 5, 2) := dk_21 5 (dk_at dksX4_isAlone_2 15 rfl rfl)
theorem dX4_isAlone_64 : decode cX4_isAlone 64 = .ok (.ifCond .eq 48, 3) := dk_153 0 48 (dk_at dksX4_isAlone_2 17 rfl rfl)
theorem dX4_isAlone_67 : decode cX4_isAlone 67 = .ok (.aload_n 0, 1) := dk_42 (dk_at dksX4_isAlone_2 20 rfl rfl)
theorem dX4_isAlone_68 : decode cX4_isAlone 68 = .ok (.getfield 152, 3) := dk_180 0 152 (dk_at dksX4_isAlone_2 21 rfl rfl)
theorem dX4_isAlone_71 : decode cX4_isAlone 71 = .ok (.iload_n 1, 1) := dk_27 (dk_at dksX4_isAlone_3 0 rfl rfl)
theorem dX4_isAlone_72 : decode cX4_isAlone 72 = .ok (.iaload, 1) := dk_46 (dk_at dksX4_isAlone_3 1 rfl rfl)
theorem dX4_isAlone_73 : decode cX4_isAlone 73 = .ok (.ifCond .lt 22, 3) := dk_155 0 22 (dk_at dksX4_isAlone_3 2 rfl rfl)
theorem dX4_isAlone_76 : decode cX4_isAlone 76 = .ok (.aload_n 0, 1) := dk_42 (dk_at dksX4_isAlone_3 5 rfl rfl)
theorem dX4_isAlone_77 : decode cX4_isAlone 77 = .ok (.getfield 152, 3) := dk_180 0 152 (dk_at dksX4_isAlone_3 6 rfl rfl)
theorem dX4_isAlone_80 : decode cX4_isAlone 80 = .ok (.iload_n 1, 1) := dk_27 (dk_at dksX4_isAlone_3 9 rfl rfl)
theorem dX4_isAlone_81 : decode cX4_isAlone 81 = .ok (.iaload, 1) := dk_46 (dk_at dksX4_isAlone_3 10 rfl rfl)
theorem dX4_isAlone_82 : decode cX4_isAlone 82 = .ok (.aload_n 0, 1) := dk_42 (dk_at dksX4_isAlone_3 11 rfl rfl)
theorem dX4_isAlone_83 : decode cX4_isAlone 83 = .ok (.getfield 143, 3) := dk_180 0 143 (dk_at dksX4_isAlone_3 12 rfl rfl)
theorem dX4_isAlone_86 : decode cX4_isAlone 86 = .ok (.iload_n 1, 1) := dk_27 (dk_at dksX4_isAlone_3 15 rfl rfl)
theorem dX4_isAlone_87 : decode cX4_isAlone 87 = .ok (.iaload, 1) := dk_46 (dk_at dksX4_isAlone_3 16 rfl rfl)
theorem dX4_isAlone_88 : decode cX4_isAlone 88 = .ok (.iload_n 3, 1) := dk_29 (dk_at dksX4_isAlone_3 17 rfl rfl)
theorem dX4_isAlone_89 : decode cX4_isAlone 89 = .ok (.invokestatic 358, 3) := dk_184 1 102 (dk_at dksX4_isAlone_3 18 rfl rfl)
theorem dX4_isAlone_92 : decode cX4_isAlone 92 = .ok (.ifCond .eq 20, 3) := dk_153 0 20 (dk_at dksX4_isAlone_3 21 rfl rfl)
theorem dX4_isAlone_95 : decode cX4_isAlone 95 = .ok (.iload 4, 2) := dk_21 4 (dk_at dksX4_isAlone_4 0 rfl rfl)
theorem dX4_isAlone_97 : decode cX4_isAlone 97 = .ok (.iconst 1, 1) := dk_4 (dk_at dksX4_isAlone_4 2 rfl rfl)
theorem dX4_isAlone_98 : decode cX4_isAlone 98 = .ok (.iand, 1) := dk_126 (dk_at dksX4_isAlone_4 3 rfl rfl)
theorem dX4_isAlone_99 : decode cX4_isAlone 99 = .ok (.iconst 1, 1) := dk_4 (dk_at dksX4_isAlone_4 4 rfl rfl)
theorem dX4_isAlone_100 : decode cX4_isAlone 100 = .ok (.if_icmp .eq 8, 3) := dk_159 0 8 (dk_at dksX4_isAlone_4 5 rfl rfl)
theorem dX4_isAlone_103 : decode cX4_isAlone 103 = .ok (.iload 4, 2) := dk_21 4 (dk_at dksX4_isAlone_4 8 rfl rfl)
theorem dX4_isAlone_105 : decode cX4_isAlone 105 = .ok (.ifCond .ne 7, 3) := dk_154 0 7 (dk_at dksX4_isAlone_4 10 rfl rfl)
theorem dX4_isAlone_108 : decode cX4_isAlone 108 = .ok (.iconst 1, 1) := dk_4 (dk_at dksX4_isAlone_4 13 rfl rfl)
theorem dX4_isAlone_109 : decode cX4_isAlone 109 = .ok (.goto 4, 3) := dk_167 0 4 (dk_at dksX4_isAlone_4 14 rfl rfl)
theorem dX4_isAlone_112 : decode cX4_isAlone 112 = .ok (.iconst 0, 1) := dk_3 (dk_at dksX4_isAlone_4 17 rfl rfl)
theorem dX4_isAlone_113 : decode cX4_isAlone 113 = .ok (.ireturn, 1) := dk_172 (dk_at dksX4_isAlone_4 18 rfl rfl)
abbrev cX4_findFewest : ByteArray := prog_21_method_60_code
def yX4_findFewest : MethodName := ⟨RX4, "findFewest", "(II)V"⟩
def dkwX4_findFewest_15 : List UInt8 := [132, 5, 1, 167, 255, 202, 177]
abbrev dktX4_findFewest_15 : List UInt8 := dkwX4_findFewest_15 ++ []
def dkwX4_findFewest_14 : List UInt8 := [160, 0, 7, 5, 167, 0, 19, 21, 4, 21, 5, 122, 4, 126, 4, 160, 0, 7, 6, 167, 0, 4, 3, 79]
abbrev dktX4_findFewest_14 : List UInt8 := dkwX4_findFewest_14 ++ dktX4_findFewest_15
def dkwX4_findFewest_13 : List UInt8 := [180, 1, 179, 162, 0, 51, 42, 180, 0, 176, 42, 180, 0, 179, 21, 5, 46, 29, 21, 5, 122, 4, 126, 4]
abbrev dktX4_findFewest_13 : List UInt8 := dkwX4_findFewest_13 ++ dktX4_findFewest_14
def dkwX4_findFewest_12 : List UInt8 := [180, 1, 185, 181, 1, 185, 42, 21, 6, 181, 1, 172, 132, 5, 1, 167, 255, 137, 3, 54, 5, 21, 5, 42]
abbrev dktX4_findFewest_12 : List UInt8 := dkwX4_findFewest_12 ++ dktX4_findFewest_13
def dkwX4_findFewest_11 : List UInt8 := [180, 1, 172, 161, 0, 15, 21, 5, 42, 180, 1, 185, 184, 1, 191, 153, 0, 8, 21, 5, 167, 0, 7, 42]
abbrev dktX4_findFewest_11 : List UInt8 := dkwX4_findFewest_11 ++ dktX4_findFewest_12
def dkwX4_findFewest_10 : List UInt8 := [42, 180, 1, 172, 162, 0, 8, 21, 5, 167, 0, 8, 21, 4, 21, 5, 128, 54, 4, 42, 21, 6, 42]
abbrev dktX4_findFewest_10 : List UInt8 := dkwX4_findFewest_10 ++ dktX4_findFewest_11
def dkwX4_findFewest_9 : List UInt8 := [153, 0, 83, 21, 6, 42, 180, 1, 172, 162, 0, 8, 21, 5, 167, 0, 7, 29, 21, 5, 126, 62, 21, 6]
abbrev dktX4_findFewest_9 : List UInt8 := dkwX4_findFewest_9 ++ dktX4_findFewest_10
def dkwX4_findFewest_8 : List UInt8 := [21, 5, 184, 1, 135, 54, 6, 21, 6, 42, 180, 1, 172, 163, 0, 92, 42, 21, 5, 182, 1, 188]
abbrev dktX4_findFewest_8 : List UInt8 := dkwX4_findFewest_8 ++ dktX4_findFewest_9
def dkwX4_findFewest_7 : List UInt8 := [3, 62, 3, 54, 4, 42, 3, 181, 1, 185, 3, 54, 5, 21, 5, 4, 42, 180, 1, 179, 120, 162, 0, 114]
abbrev dktX4_findFewest_7 : List UInt8 := dkwX4_findFewest_7 ++ dktX4_findFewest_8
def dkwX4_findFewest_6 : List UInt8 := [3, 84, 132, 4, 1, 167, 255, 201, 132, 3, 1, 167, 255, 184, 42, 42, 180, 1, 179, 4, 96, 181, 1, 172]
abbrev dktX4_findFewest_6 : List UInt8 := dkwX4_findFewest_6 ++ dktX4_findFewest_7
def dkwX4_findFewest_5 : List UInt8 := [42, 42, 180, 0, 179, 29, 46, 42, 180, 0, 179, 21, 4, 46, 182, 1, 182, 154, 0, 7, 4, 167, 0, 4]
abbrev dktX4_findFewest_5 : List UInt8 := dkwX4_findFewest_5 ++ dktX4_findFewest_6
def dkwX4_findFewest_4 : List UInt8 := [42, 180, 1, 179, 162, 0, 52, 42, 180, 0, 182, 16, 12, 29, 104, 21, 4, 96, 29, 21, 4, 159, 0, 27]
abbrev dktX4_findFewest_4 : List UInt8 := dkwX4_findFewest_4 ++ dktX4_findFewest_5
def dkwX4_findFewest_3 : List UInt8 := [181, 1, 179, 132, 3, 1, 167, 255, 187, 3, 62, 29, 42, 180, 1, 179, 162, 0, 70, 3, 54, 4, 21, 4]
abbrev dktX4_findFewest_3 : List UInt8 := dkwX4_findFewest_3 ++ dktX4_findFewest_4
def dkwX4_findFewest_2 : List UInt8 := [46, 4, 159, 0, 23, 42, 180, 0, 179, 42, 180, 1, 179, 29, 79, 42, 89, 180, 1, 179, 4, 96]
abbrev dktX4_findFewest_2 : List UInt8 := dkwX4_findFewest_2 ++ dktX4_findFewest_3
def dkwX4_findFewest_1 : List UInt8 := [180, 0, 137, 29, 46, 27, 160, 0, 43, 42, 180, 0, 140, 29, 46, 28, 160, 0, 33, 42, 180, 0, 176, 29]
abbrev dktX4_findFewest_1 : List UInt8 := dkwX4_findFewest_1 ++ dktX4_findFewest_2
def dkwX4_findFewest_0 : List UInt8 := [42, 3, 181, 1, 179, 3, 62, 29, 42, 180, 1, 116, 162, 0, 67, 42, 29, 182, 1, 138, 153, 0, 53, 42]
abbrev dktX4_findFewest_0 : List UInt8 := dkwX4_findFewest_0 ++ dktX4_findFewest_1
theorem dksX4_findFewest_0 : cX4_findFewest.data.toList.drop 0 = dktX4_findFewest_0 := by decide +kernel
theorem dksX4_findFewest_1 : cX4_findFewest.data.toList.drop 24 = dktX4_findFewest_1 := dk_seg dksX4_findFewest_0 24 rfl rfl
theorem dksX4_findFewest_2 : cX4_findFewest.data.toList.drop 48 = dktX4_findFewest_2 := dk_seg dksX4_findFewest_1 24 rfl rfl
theorem dksX4_findFewest_3 : cX4_findFewest.data.toList.drop 70 = dktX4_findFewest_3 := dk_seg dksX4_findFewest_2 22 rfl rfl
theorem dksX4_findFewest_4 : cX4_findFewest.data.toList.drop 94 = dktX4_findFewest_4 := dk_seg dksX4_findFewest_3 24 rfl rfl
theorem dksX4_findFewest_5 : cX4_findFewest.data.toList.drop 118 = dktX4_findFewest_5 := dk_seg dksX4_findFewest_4 24 rfl rfl
theorem dksX4_findFewest_6 : cX4_findFewest.data.toList.drop 142 = dktX4_findFewest_6 := dk_seg dksX4_findFewest_5 24 rfl rfl
theorem dksX4_findFewest_7 : cX4_findFewest.data.toList.drop 166 = dktX4_findFewest_7 := dk_seg dksX4_findFewest_6 24 rfl rfl
theorem dksX4_findFewest_8 : cX4_findFewest.data.toList.drop 190 = dktX4_findFewest_8 := dk_seg dksX4_findFewest_7 24 rfl rfl
theorem dksX4_findFewest_9 : cX4_findFewest.data.toList.drop 212 = dktX4_findFewest_9 := dk_seg dksX4_findFewest_8 22 rfl rfl
theorem dksX4_findFewest_10 : cX4_findFewest.data.toList.drop 236 = dktX4_findFewest_10 := dk_seg dksX4_findFewest_9 24 rfl rfl
theorem dksX4_findFewest_11 : cX4_findFewest.data.toList.drop 259 = dktX4_findFewest_11 := dk_seg dksX4_findFewest_10 23 rfl rfl
theorem dksX4_findFewest_12 : cX4_findFewest.data.toList.drop 283 = dktX4_findFewest_12 := dk_seg dksX4_findFewest_11 24 rfl rfl
theorem dksX4_findFewest_13 : cX4_findFewest.data.toList.drop 307 = dktX4_findFewest_13 := dk_seg dksX4_findFewest_12 24 rfl rfl
theorem dksX4_findFewest_14 : cX4_findFewest.data.toList.drop 331 = dktX4_findFewest_14 := dk_seg dksX4_findFewest_13 24 rfl rfl
theorem dksX4_findFewest_15 : cX4_findFewest.data.toList.drop 355 = dktX4_findFewest_15 := dk_seg dksX4_findFewest_14 24 rfl rfl
theorem dX4_findFewest_0 : decode cX4_findFewest 0 = .ok (.aload_n 0, 1) := dk_42 (dk_at dksX4_findFewest_0 0 rfl rfl)
theorem dX4_findFewest_1 : decode cX4_findFewest 1 = .ok (.iconst 0, 1) := dk_3 (dk_at dksX4_findFewest_0 1 rfl rfl)
theorem dX4_findFewest_2 : decode cX4_findFewest 2 = .ok (.putfield 435, 3) := dk_181 1 179 (dk_at dksX4_findFewest_0 2 rfl rfl)
theorem dX4_findFewest_5 : decode cX4_findFewest 5 = .ok (.iconst 0, 1) := dk_3 (dk_at dksX4_findFewest_0 5 rfl rfl)
theorem dX4_findFewest_6 : decode cX4_findFewest 6 = .ok (.istore_n 3, 1) := dk_62 (dk_at dksX4_findFewest_0 6 rfl rfl)
theorem dX4_findFewest_7 : decode cX4_findFewest 7 = .ok (.iload_n 3, 1) := dk_29 (dk_at dksX4_findFewest_0 7 rfl rfl)
theorem dX4_findFewest_8 : decode cX4_findFewest 8 = .ok (.aload_n 0, 1) := dk_42 (dk_at dksX4_findFewest_0 8 rfl rfl)
theorem dX4_findFewest_9 : decode cX4_findFewest 9 = .ok (.getfield 372, 3) := dk_180 1 116 (dk_at dksX4_findFewest_0 9 rfl rfl)
theorem dX4_findFewest_12 : decode cX4_findFewest 12 = .ok (.if_icmp .ge 67, 3) := dk_162 0 67 (dk_at dksX4_findFewest_0 12 rfl rfl)
theorem dX4_findFewest_15 : decode cX4_findFewest 15 = .ok (.aload_n 0, 1) := dk_42 (dk_at dksX4_findFewest_0 15 rfl rfl)
theorem dX4_findFewest_16 : decode cX4_findFewest 16 = .ok (.iload_n 3, 1) := dk_29 (dk_at dksX4_findFewest_0 16 rfl rfl)
theorem dX4_findFewest_17 : decode cX4_findFewest 17 = .ok (.invokevirtual 394, 3) := dk_182 1 138 (dk_at dksX4_findFewest_0 17 rfl rfl)
theorem dX4_findFewest_20 : decode cX4_findFewest 20 = .ok (.ifCond .eq 53, 3) := dk_153 0 53 (dk_at dksX4_findFewest_0 20 rfl rfl)
theorem dX4_findFewest_23 : decode cX4_findFewest 23 = .ok (.aload_n 0, 1) := dk_42 (dk_at dksX4_findFewest_0 23 rfl rfl)
theorem dX4_findFewest_24 : decode cX4_findFewest 24 = .ok (.getfield 137, 3) := dk_180 0 137 (dk_at dksX4_findFewest_1 0 rfl rfl)
theorem dX4_findFewest_27 : decode cX4_findFewest 27 = .ok (.iload_n 3, 1) := dk_29 (dk_at dksX4_findFewest_1 3 rfl rfl)
theorem dX4_findFewest_28 : decode cX4_findFewest 28 = .ok (.iaload, 1) := dk_46 (dk_at dksX4_findFewest_1 4 rfl rfl)
theorem dX4_findFewest_29 : decode cX4_findFewest 29 = .ok (.iload_n 1, 1) := dk_27 (dk_at dksX4_findFewest_1 5 rfl rfl)
theorem dX4_findFewest_30 : decode cX4_findFewest 30 = .ok (.if_icmp .ne 43, 3) := dk_160 0 43 (dk_at dksX4_findFewest_1 6 rfl rfl)
theorem dX4_findFewest_33 : decode cX4_findFewest 33 = .ok (.aload_n 0, 1) := dk_42 (dk_at dksX4_findFewest_1 9 rfl rfl)
theorem dX4_findFewest_34 : decode cX4_findFewest 34 = .ok (.getfield 140, 3) := dk_180 0 140 (dk_at dksX4_findFewest_1 10 rfl rfl)
theorem dX4_findFewest_37 : decode cX4_findFewest 37 = .ok (.iload_n 3, 1) := dk_29 (dk_at dksX4_findFewest_1 13 rfl rfl)
theorem dX4_findFewest_38 : decode cX4_findFewest 38 = .ok (.iaload, 1) := dk_46 (dk_at dksX4_findFewest_1 14 rfl rfl)
theorem dX4_findFewest_39 : decode cX4_findFewest 39 = .ok (.iload_n 2, 1) := dk_28 (dk_at dksX4_findFewest_1 15 rfl rfl)
theorem dX4_findFewest_40 : decode cX4_findFewest 40 = .ok (.if_icmp .ne 33, 3) := dk_160 0 33 (dk_at dksX4_findFewest_1 16 rfl rfl)
theorem dX4_findFewest_43 : decode cX4_findFewest 43 = .ok (.aload_n 0, 1) := dk_42 (dk_at dksX4_findFewest_1 19 rfl rfl)
theorem dX4_findFewest_44 : decode cX4_findFewest 44 = .ok (.getfield 176, 3) := dk_180 0 176 (dk_at dksX4_findFewest_1 20 rfl rfl)
theorem dX4_findFewest_47 : decode cX4_findFewest 47 = .ok (.iload_n 3, 1) := dk_29 (dk_at dksX4_findFewest_1 23 rfl rfl)
theorem dX4_findFewest_48 : decode cX4_findFewest 48 = .ok (.iaload, 1) := dk_46 (dk_at dksX4_findFewest_2 0 rfl rfl)
theorem dX4_findFewest_49 : decode cX4_findFewest 49 = .ok (.iconst 1, 1) := dk_4 (dk_at dksX4_findFewest_2 1 rfl rfl)
theorem dX4_findFewest_50 : decode cX4_findFewest 50 = .ok (.if_icmp .eq 23, 3) := dk_159 0 23 (dk_at dksX4_findFewest_2 2 rfl rfl)
theorem dX4_findFewest_53 : decode cX4_findFewest 53 = .ok (.aload_n 0, 1) := dk_42 (dk_at dksX4_findFewest_2 5 rfl rfl)
theorem dX4_findFewest_54 : decode cX4_findFewest 54 = .ok (.getfield 179, 3) := dk_180 0 179 (dk_at dksX4_findFewest_2 6 rfl rfl)
theorem dX4_findFewest_57 : decode cX4_findFewest 57 = .ok (.aload_n 0, 1) := dk_42 (dk_at dksX4_findFewest_2 9 rfl rfl)
theorem dX4_findFewest_58 : decode cX4_findFewest 58 = .ok (.getfield 435, 3) := dk_180 1 179 (dk_at dksX4_findFewest_2 10 rfl rfl)
theorem dX4_findFewest_61 : decode cX4_findFewest 61 = .ok (.iload_n 3, 1) := dk_29 (dk_at dksX4_findFewest_2 13 rfl rfl)
theorem dX4_findFewest_62 : decode cX4_findFewest 62 = .ok (.iastore, 1) := dk_79 (dk_at dksX4_findFewest_2 14 rfl rfl)
theorem dX4_findFewest_63 : decode cX4_findFewest 63 = .ok (.aload_n 0, 1) := dk_42 (dk_at dksX4_findFewest_2 15 rfl rfl)
theorem dX4_findFewest_64 : decode cX4_findFewest 64 = .ok (.dup, 1) := dk_89 (dk_at dksX4_findFewest_2 16 rfl rfl)
theorem dX4_findFewest_65 : decode cX4_findFewest 65 = .ok (.getfield 435, 3) := dk_180 1 179 (dk_at dksX4_findFewest_2 17 rfl rfl)
theorem dX4_findFewest_68 : decode cX4_findFewest 68 = .ok (.iconst 1, 1) := dk_4 (dk_at dksX4_findFewest_2 20 rfl rfl)
theorem dX4_findFewest_69 : decode cX4_findFewest 69 = .ok (.iadd, 1) := dk_96 (dk_at dksX4_findFewest_2 21 rfl rfl)
theorem dX4_findFewest_70 : decode cX4_findFewest 70 = .ok (.putfield 435, 3) := dk_181 1 179 (dk_at dksX4_findFewest_3 0 rfl rfl)
theorem dX4_findFewest_73 : decode cX4_findFewest 73 = .ok (.iinc 3 1, 3) := dk_132 3 1 (dk_at dksX4_findFewest_3 3 rfl rfl)
theorem dX4_findFewest_76 : decode cX4_findFewest 76 = .ok (.goto (-69), 3) := dk_167 255 187 (dk_at dksX4_findFewest_3 6 rfl rfl)
theorem dX4_findFewest_79 : decode cX4_findFewest 79 = .ok (.iconst 0, 1) := dk_3 (dk_at dksX4_findFewest_3 9 rfl rfl)
theorem dX4_findFewest_80 : decode cX4_findFewest 80 = .ok (.istore_n 3, 1) := dk_62 (dk_at dksX4_findFewest_3 10 rfl rfl)
theorem dX4_findFewest_81 : decode cX4_findFewest 81 = .ok (.iload_n 3, 1) := dk_29 (dk_at dksX4_findFewest_3 11 rfl rfl)
theorem dX4_findFewest_82 : decode cX4_findFewest 82 = .ok (.aload_n 0, 1) := dk_42 (dk_at dksX4_findFewest_3 12 rfl rfl)
theorem dX4_findFewest_83 : decode cX4_findFewest 83 = .ok (.getfield 435, 3) := dk_180 1 179 (dk_at dksX4_findFewest_3 13 rfl rfl)
theorem dX4_findFewest_86 : decode cX4_findFewest 86 = .ok (.if_icmp .ge 70, 3) := dk_162 0 70 (dk_at dksX4_findFewest_3 16 rfl rfl)
theorem dX4_findFewest_89 : decode cX4_findFewest 89 = .ok (.iconst 0, 1) := dk_3 (dk_at dksX4_findFewest_3 19 rfl rfl)
theorem dX4_findFewest_90 : decode cX4_findFewest 90 = .ok (.istore 4, 2) := dk_54 4 (dk_at dksX4_findFewest_3 20 rfl rfl)
theorem dX4_findFewest_92 : decode cX4_findFewest 92 = .ok (.iload 4, 2) := dk_21 4 (dk_at dksX4_findFewest_3 22 rfl rfl)
theorem dX4_findFewest_94 : decode cX4_findFewest 94 = .ok (.aload_n 0, 1) := dk_42 (dk_at dksX4_findFewest_4 0 rfl rfl)
theorem dX4_findFewest_95 : decode cX4_findFewest 95 = .ok (.getfield 435, 3) := dk_180 1 179 (dk_at dksX4_findFewest_4 1 rfl rfl)
theorem dX4_findFewest_98 : decode cX4_findFewest 98 = .ok (.if_icmp .ge 52, 3) := dk_162 0 52 (dk_at dksX4_findFewest_4 4 rfl rfl)
theorem dX4_findFewest_101 : decode cX4_findFewest 101 = .ok (.aload_n 0, 1) := dk_42 (dk_at dksX4_findFewest_4 7 rfl rfl)
theorem dX4_findFewest_102 : decode cX4_findFewest 102 = .ok (.getfield 182, 3) := dk_180 0 182 (dk_at dksX4_findFewest_4 8 rfl rfl)
theorem dX4_findFewest_105 : decode cX4_findFewest 105 = .ok (.bipush 12, 2) := dk_16 12 (dk_at dksX4_findFewest_4 11 rfl rfl)
theorem dX4_findFewest_107 : decode cX4_findFewest 107 = .ok (.iload_n 3, 1) := dk_29 (dk_at dksX4_findFewest_4 13 rfl rfl)
theorem dX4_findFewest_108 : decode cX4_findFewest 108 = .ok (.imul, 1) := dk_104 (dk_at dksX4_findFewest_4 14 rfl rfl)
theorem dX4_findFewest_109 : decode cX4_findFewest 109 = .ok (.iload 4, 2) := dk_21 4 (dk_at dksX4_findFewest_4 15 rfl rfl)
theorem dX4_findFewest_111 : decode cX4_findFewest 111 = .ok (.iadd, 1) := dk_96 (dk_at dksX4_findFewest_4 17 rfl rfl)
theorem dX4_findFewest_112 : decode cX4_findFewest 112 = .ok (.iload_n 3, 1) := dk_29 (dk_at dksX4_findFewest_4 18 rfl rfl)
theorem dX4_findFewest_113 : decode cX4_findFewest 113 = .ok (.iload 4, 2) := dk_21 4 (dk_at dksX4_findFewest_4 19 rfl rfl)
theorem dX4_findFewest_115 : decode cX4_findFewest 115 = .ok (.if_icmp .eq 27, 3) := dk_159 0 27 (dk_at dksX4_findFewest_4 21 rfl rfl)
theorem dX4_findFewest_118 : decode cX4_findFewest 118 = .ok (.aload_n 0, 1) := dk_42 (dk_at dksX4_findFewest_5 0 rfl rfl)
theorem dX4_findFewest_119 : decode cX4_findFewest 119 = .ok (.aload_n 0, 1) := dk_42 (dk_at dksX4_findFewest_5 1 rfl rfl)
theorem dX4_findFewest_120 : decode cX4_findFewest 120 = .ok (.getfield 179, 3) := dk_180 0 179 (dk_at dksX4_findFewest_5 2 rfl rfl)
theorem dX4_findFewest_123 : decode cX4_findFewest 123 = .ok (.iload_n 3, 1) := dk_29 (dk_at dksX4_findFewest_5 5 rfl rfl)
theorem dX4_findFewest_124 : decode cX4_findFewest 124 = .ok (.iaload, 1) := dk_46 (dk_at dksX4_findFewest_5 6 rfl rfl)
theorem dX4_findFewest_125 : decode cX4_findFewest 125 = .ok (.aload_n 0, 1) := dk_42 (dk_at dksX4_findFewest_5 7 rfl rfl)
theorem dX4_findFewest_126 : decode cX4_findFewest 126 = .ok (.getfield 179, 3) := dk_180 0 179 (dk_at dksX4_findFewest_5 8 rfl rfl)
theorem dX4_findFewest_129 : decode cX4_findFewest 129 = .ok (.iload 4, 2) := dk_21 4 (dk_at dksX4_findFewest_5 11 rfl rfl)
theorem dX4_findFewest_131 : decode cX4_findFewest 131 = .ok (.iaload, 1) := dk_46 (dk_at dksX4_findFewest_5 13 rfl rfl)
theorem dX4_findFewest_132 : decode cX4_findFewest 132 = .ok (.invokevirtual 438, 3) := dk_182 1 182 (dk_at dksX4_findFewest_5 14 rfl rfl)
theorem dX4_findFewest_135 : decode cX4_findFewest 135 = .ok (.ifCond .ne 7, 3) := dk_154 0 7 (dk_at dksX4_findFewest_5 17 rfl rfl)
theorem dX4_findFewest_138 : decode cX4_findFewest 138 = .ok (.iconst 1, 1) := dk_4 (dk_at dksX4_findFewest_5 20 rfl rfl)
theorem dX4_findFewest_139 : decode cX4_findFewest 139 = .ok (.goto 4, 3) := dk_167 0 4 (dk_at dksX4_findFewest_5 21 rfl rfl)
theorem dX4_findFewest_142 : decode cX4_findFewest 142 = .ok (.iconst 0, 1) := dk_3 (dk_at dksX4_findFewest_6 0 rfl rfl)
theorem dX4_findFewest_143 : decode cX4_findFewest 143 = .ok (.bastore, 1) := dk_84 (dk_at dksX4_findFewest_6 1 rfl rfl)
theorem dX4_findFewest_144 : decode cX4_findFewest 144 = .ok (.iinc 4 1, 3) := dk_132 4 1 (dk_at dksX4_findFewest_6 2 rfl rfl)
theorem dX4_findFewest_147 : decode cX4_findFewest 147 = .ok (.goto (-55), 3) := dk_167 255 201 (dk_at dksX4_findFewest_6 5 rfl rfl)
theorem dX4_findFewest_150 : decode cX4_findFewest 150 = .ok (.iinc 3 1, 3) := dk_132 3 1 (dk_at dksX4_findFewest_6 8 rfl rfl)
theorem dX4_findFewest_153 : decode cX4_findFewest 153 = .ok (.goto (-72), 3) := dk_167 255 184 (dk_at dksX4_findFewest_6 11 rfl rfl)
theorem dX4_findFewest_156 : decode cX4_findFewest 156 = .ok (.aload_n 0, 1) := dk_42 (dk_at dksX4_findFewest_6 14 rfl rfl)
theorem dX4_findFewest_157 : decode cX4_findFewest 157 = .ok (.aload_n 0, 1) := dk_42 (dk_at dksX4_findFewest_6 15 rfl rfl)
theorem dX4_findFewest_158 : decode cX4_findFewest 158 = .ok (.getfield 435, 3) := dk_180 1 179 (dk_at dksX4_findFewest_6 16 rfl rfl)
theorem dX4_findFewest_161 : decode cX4_findFewest 161 = .ok (.iconst 1, 1) := dk_4 (dk_at dksX4_findFewest_6 19 rfl rfl)
theorem dX4_findFewest_162 : decode cX4_findFewest 162 = .ok (.iadd, 1) := dk_96 (dk_at dksX4_findFewest_6 20 rfl rfl)
theorem dX4_findFewest_163 : decode cX4_findFewest 163 = .ok (.putfield 428, 3) := dk_181 1 172 (dk_at dksX4_findFewest_6 21 rfl rfl)
theorem dX4_findFewest_166 : decode cX4_findFewest 166 = .ok (.iconst 0, 1) := dk_3 (dk_at dksX4_findFewest_7 0 rfl rfl)
theorem dX4_findFewest_167 : decode cX4_findFewest 167 = .ok (.istore_n 3, 1) := dk_62 (dk_at dksX4_findFewest_7 1 rfl rfl)
theorem dX4_findFewest_168 : decode cX4_findFewest 168 = .ok (.iconst 0, 1) := dk_3 (dk_at dksX4_findFewest_7 2 rfl rfl)
theorem dX4_findFewest_169 : decode cX4_findFewest 169 = .ok (.istore 4, 2) := dk_54 4 (dk_at dksX4_findFewest_7 3 rfl rfl)
theorem dX4_findFewest_171 : decode cX4_findFewest 171 = .ok (.aload_n 0, 1) := dk_42 (dk_at dksX4_findFewest_7 5 rfl rfl)
theorem dX4_findFewest_172 : decode cX4_findFewest 172 = .ok (.iconst 0, 1) := dk_3 (dk_at dksX4_findFewest_7 6 rfl rfl)
theorem dX4_findFewest_173 : decode cX4_findFewest 173 = .ok (.putfield 441, 3) := dk_181 1 185 (dk_at dksX4_findFewest_7 7 rfl rfl)
theorem dX4_findFewest_176 : decode cX4_findFewest 176 = .ok (.iconst 0, 1) := dk_3 (dk_at dksX4_findFewest_7 10 rfl rfl)
theorem dX4_findFewest_177 : decode cX4_findFewest 177 = .ok (.istore 5, 2) := dk_54 5 (dk_at dksX4_findFewest_7 11 rfl rfl)
theorem dX4_findFewest_179 : decode cX4_findFewest 179 = .ok (.iload 5, 2) := dk_21 5 (dk_at dksX4_findFewest_7 13 rfl rfl)
theorem dX4_findFewest_181 : decode cX4_findFewest 181 = .ok (.iconst 1, 1) := dk_4 (dk_at dksX4_findFewest_7 15 rfl rfl)
theorem dX4_findFewest_182 : decode cX4_findFewest 182 = .ok (.aload_n 0, 1) := dk_42 (dk_at dksX4_findFewest_7 16 rfl rfl)
theorem dX4_findFewest_183 : decode cX4_findFewest 183 = .ok (.getfield 435, 3) := dk_180 1 179 (dk_at dksX4_findFewest_7 17 rfl rfl)
theorem dX4_findFewest_186 : decode cX4_findFewest 186 = .ok (.ishl, 1) := dk_120 (dk_at dksX4_findFewest_7 20 rfl rfl)
theorem dX4_findFewest_187 : decode cX4_findFewest 187 = .ok (.if_icmp .ge 114, 3) := dk_162 0 114 (dk_at dksX4_findFewest_7 21 rfl rfl)
theorem dX4_findFewest_190 : decode cX4_findFewest 190 = .ok (.iload 5, 2) := dk_21 5 (dk_at dksX4_findFewest_8 0 rfl rfl)
theorem dX4_findFewest_192 : decode cX4_findFewest 192 = .ok (.invokestatic 391, 3) := dk_184 1 135 (dk_at dksX4_findFewest_8 2 rfl rfl)
theorem dX4_findFewest_195 : decode cX4_findFewest 195 = .ok (.istore 6, 2) := dk_54 6 (dk_at dksX4_findFewest_8 5 rfl rfl)
theorem dX4_findFewest_197 : decode cX4_findFewest 197 = .ok (.iload 6, 2) := dk_21 6 (dk_at dksX4_findFewest_8 7 rfl rfl)
theorem dX4_findFewest_199 : decode cX4_findFewest 199 = .ok (.aload_n 0, 1) := dk_42 (dk_at dksX4_findFewest_8 9 rfl rfl)
theorem dX4_findFewest_200 : decode cX4_findFewest 200 = .ok (.getfield 428, 3) := dk_180 1 172 (dk_at dksX4_findFewest_8 10 rfl rfl)
theorem dX4_findFewest_203 : decode cX4_findFewest 203 = .ok (.if_icmp .gt 92, 3) := dk_163 0 92 (dk_at dksX4_findFewest_8 13 rfl rfl)
theorem dX4_findFewest_206 : decode cX4_findFewest 206 = .ok (.aload_n 0, 1) := dk_42 (dk_at dksX4_findFewest_8 16 rfl rfl)
theorem dX4_findFewest_207 : decode cX4_findFewest 207 = .ok (.iload 5, 2) := dk_21 5 (dk_at dksX4_findFewest_8 17 rfl rfl)
theorem dX4_findFewest_209 : decode cX4_findFewest 209 = .ok (.invokevirtual 444, 3) := dk_182 1 188 (dk_at dksX4_findFewest_8 19 rfl rfl)
theorem dX4_findFewest_212 : decode cX4_findFewest 212 = .ok (.ifCond .eq 83, 3) := dk_153 0 83 (dk_at dksX4_findFewest_9 0 rfl rfl)
theorem dX4_findFewest_215 : decode cX4_findFewest 215 = .ok (.iload 6, 2) := dk_21 6 (dk_at dksX4_findFewest_9 3 rfl rfl)
theorem dX4_findFewest_217 : decode cX4_findFewest 217 = .ok (.aload_n 0, 1) := dk_42 (dk_at dksX4_findFewest_9 5 rfl rfl)
theorem dX4_findFewest_218 : decode cX4_findFewest 218 = .ok (.getfield 428, 3) := dk_180 1 172 (dk_at dksX4_findFewest_9 6 rfl rfl)
theorem dX4_findFewest_221 : decode cX4_findFewest 221 = .ok (.if_icmp .ge 8, 3) := dk_162 0 8 (dk_at dksX4_findFewest_9 9 rfl rfl)
theorem dX4_findFewest_224 : decode cX4_findFewest 224 = .ok (.iload 5, 2) := dk_21 5 (dk_at dksX4_findFewest_9 12 rfl rfl)
theorem dX4_findFewest_226 : decode cX4_findFewest 226 = .ok (.goto 7, 3) := dk_167 0 7 (dk_at dksX4_findFewest_9 14 rfl rfl)
theorem dX4_findFewest_229 : decode cX4_findFewest 229 = .ok (.iload_n 3, 1) := dk_29 (dk_at dksX4_findFewest_9 17 rfl rfl)
theorem dX4_findFewest_230 : decode cX4_findFewest 230 = .ok (.iload 5, 2) := dk_21 5 (dk_at dksX4_findFewest_9 18 rfl rfl)
theorem dX4_findFewest_232 : decode cX4_findFewest 232 = .ok (.iand, 1) := dk_126 (dk_at dksX4_findFewest_9 20 rfl rfl)
theorem dX4_findFewest_233 : decode cX4_findFewest 233 = .ok (.istore_n 3, 1) := dk_62 (dk_at dksX4_findFewest_9 21 rfl rfl)
theorem dX4_findFewest_234 : decode cX4_findFewest 234 = .ok (.iload 6, 2) := dk_21 6 (dk_at dksX4_findFewest_9 22 rfl rfl)
theorem dX4_findFewest_236 : decode cX4_findFewest 236 = .ok (.aload_n 0, 1) := dk_42 (dk_at dksX4_findFewest_10 0 rfl rfl)
theorem dX4_findFewest_237 : decode cX4_findFewest 237 = .ok (.getfield 428, 3) := dk_180 1 172 (dk_at dksX4_findFewest_10 1 rfl rfl)
theorem dX4_findFewest_240 : decode cX4_findFewest 240 = .ok (.if_icmp .ge 8, 3) := dk_162 0 8 (dk_at dksX4_findFewest_10 4 rfl rfl)
theorem dX4_findFewest_243 : decode cX4_findFewest 243 = .ok (.iload 5, 2) := dk_21 5 (dk_at dksX4_findFewest_10 7 rfl rfl)
theorem dX4_findFewest_245 : decode cX4_findFewest 245 = .ok (.goto 8, 3) := dk_167 0 8 (dk_at dksX4_findFewest_10 9 rfl rfl)
theorem dX4_findFewest_248 : decode cX4_findFewest 248 = .ok (.iload 4, 2) := dk_21 4 (dk_at dksX4_findFewest_10 12 rfl rfl)
theorem dX4_findFewest_250 : decode cX4_findFewest 250 = .ok (.iload 5, 2) := dk_21 5 (dk_at dksX4_findFewest_10 14 rfl rfl)
theorem dX4_findFewest_252 : decode cX4_findFewest 252 = .ok (.ior, 1) := dk_128 (dk_at dksX4_findFewest_10 16 rfl rfl)
theorem dX4_findFewest_253 : decode cX4_findFewest 253 = .ok (.istore 4, 2) := dk_54 4 (dk_at dksX4_findFewest_10 17 rfl rfl)
theorem dX4_findFewest_255 : decode cX4_findFewest 255 = .ok (.aload_n 0, 1) := dk_42 (dk_at dksX4_findFewest_10 19 rfl rfl)
theorem dX4_findFewest_256 : decode cX4_findFewest 256 = .ok (.iload 6, 2) := dk_21 6 (dk_at dksX4_findFewest_10 20 rfl rfl)
theorem dX4_findFewest_258 : decode cX4_findFewest 258 = .ok (.aload_n 0, 1) := dk_42 (dk_at dksX4_findFewest_10 22 rfl rfl)
theorem dX4_findFewest_259 : decode cX4_findFewest 259 = .ok (.getfield 428, 3) := dk_180 1 172 (dk_at dksX4_findFewest_11 0 rfl rfl)
theorem dX4_findFewest_262 : decode cX4_findFewest 262 = .ok (.if_icmp .lt 15, 3) := dk_161 0 15 (dk_at dksX4_findFewest_11 3 rfl rfl)
theorem dX4_findFewest_265 : decode cX4_findFewest 265 = .ok (.iload 5, 2) := dk_21 5 (dk_at dksX4_findFewest_11 6 rfl rfl)
theorem dX4_findFewest_267 : decode cX4_findFewest 267 = .ok (.aload_n 0, 1) := dk_42 (dk_at dksX4_findFewest_11 8 rfl rfl)
theorem dX4_findFewest_268 : decode cX4_findFewest 268 = .ok (.getfield 441, 3) := dk_180 1 185 (dk_at dksX4_findFewest_11 9 rfl rfl)
theorem dX4_findFewest_271 : decode cX4_findFewest 271 = .ok (.invokestatic 447, 3) := dk_184 1 191 (dk_at dksX4_findFewest_11 12 rfl rfl)
theorem dX4_findFewest_274 : decode cX4_findFewest 274 = .ok (.ifCond .eq 8, 3) := dk_153 0 8 (dk_at dksX4_findFewest_11 15 rfl rfl)
theorem dX4_findFewest_277 : decode cX4_findFewest 277 = .ok (.iload 5, 2) := dk_21 5 (dk_at dksX4_findFewest_11 18 rfl rfl)
theorem dX4_findFewest_279 : decode cX4_findFewest 279 = .ok (.goto 7, 3) := dk_167 0 7 (dk_at dksX4_findFewest_11 20 rfl rfl)
theorem dX4_findFewest_282 : decode cX4_findFewest 282 = .ok (.aload_n 0, 1) := dk_42 (dk_at dksX4_findFewest_11 23 rfl rfl)
theorem dX4_findFewest_283 : decode cX4_findFewest 283 = .ok (.getfield 441, 3) := dk_180 1 185 (dk_at dksX4_findFewest_12 0 rfl rfl)
theorem dX4_findFewest_286 : decode cX4_findFewest 286 = .ok (.putfield 441, 3) := dk_181 1 185 (dk_at dksX4_findFewest_12 3 rfl rfl)
theorem dX4_findFewest_289 : decode cX4_findFewest 289 = .ok (.aload_n 0, 1) := dk_42 (dk_at dksX4_findFewest_12 6 rfl rfl)
theorem dX4_findFewest_290 : decode cX4_findFewest 290 = .ok (.iload 6, 2) := dk_21 6 (dk_at dksX4_findFewest_12 7 rfl rfl)
theorem dX4_findFewest_292 : decode cX4_findFewest 292 = .ok (.putfield 428, 3) := dk_181 1 172 (dk_at dksX4_findFewest_12 9 rfl rfl)
theorem dX4_findFewest_295 : decode cX4_findFewest 295 = .ok (.iinc 5 1, 3) := dk_132 5 1 (dk_at dksX4_findFewest_12 12 rfl rfl)
theorem dX4_findFewest_298 : decode cX4_findFewest 298 = .ok (.goto (-119), 3) := dk_167 255 137 (dk_at dksX4_findFewest_12 15 rfl rfl)
theorem dX4_findFewest_301 : decode cX4_findFewest 301 = .ok (.iconst 0, 1) := dk_3 (dk_at dksX4_findFewest_12 18 rfl rfl)
theorem dX4_findFewest_302 : decode cX4_findFewest 302 = .ok (.istore 5, 2) := dk_54 5 (dk_at dksX4_findFewest_12 19 rfl rfl)
theorem dX4_findFewest_304 : decode cX4_findFewest 304 = .ok (.iload 5, 2) := dk_21 5 (dk_at dksX4_findFewest_12 21 rfl rfl)
theorem dX4_findFewest_306 : decode cX4_findFewest 306 = .ok (.aload_n 0, 1) := dk_42 (dk_at dksX4_findFewest_12 23 rfl rfl)
theorem dX4_findFewest_307 : decode cX4_findFewest 307 = .ok (.getfield 435, 3) := dk_180 1 179 (dk_at dksX4_findFewest_13 0 rfl rfl)
theorem dX4_findFewest_310 : decode cX4_findFewest 310 = .ok (.if_icmp .ge 51, 3) := dk_162 0 51 (dk_at dksX4_findFewest_13 3 rfl rfl)
theorem dX4_findFewest_313 : decode cX4_findFewest 313 = .ok (.aload_n 0, 1) := dk_42 (dk_at dksX4_findFewest_13 6 rfl rfl)
theorem dX4_findFewest_314 : decode cX4_findFewest 314 = .ok (.getfield 176, 3) := dk_180 0 176 (dk_at dksX4_findFewest_13 7 rfl rfl)
theorem dX4_findFewest_317 : decode cX4_findFewest 317 = .ok (.aload_n 0, 1) := dk_42 (dk_at dksX4_findFewest_13 10 rfl rfl)
theorem dX4_findFewest_318 : decode cX4_findFewest 318 = .ok (.getfield 179, 3) := dk_180 0 179 (dk_at dksX4_findFewest_13 11 rfl rfl)
theorem dX4_findFewest_321 : decode cX4_findFewest 321 = .ok (.iload 5, 2) := dk_21 5 (dk_at dksX4_findFewest_13 14 rfl rfl)
theorem dX4_findFewest_323 : decode cX4_findFewest 323 = .ok (.iaload, 1) := dk_46 (dk_at dksX4_findFewest_13 16 rfl rfl)
theorem dX4_findFewest_324 : decode cX4_findFewest 324 = .ok (.iload_n 3, 1) := dk_29 (dk_at dksX4_findFewest_13 17 rfl rfl)
theorem dX4_findFewest_325 : decode cX4_findFewest 325 = .ok (.iload 5, 2) := dk_21 5 (dk_at dksX4_findFewest_13 18 rfl rfl)
theorem dX4_findFewest_327 : decode cX4_findFewest 327 = .ok (.ishr, 1) := dk_122 (dk_at dksX4_findFewest_13 20 rfl rfl)
theorem dX4_findFewest_328 : decode cX4_findFewest 328 = .ok (.iconst 1, 1) := dk_4 (dk_at dksX4_findFewest_13 21 rfl rfl)
theorem dX4_findFewest_329 : decode cX4_findFewest 329 = .ok (.iand, 1) := dk_126 (dk_at dksX4_findFewest_13 22 rfl rfl)
theorem dX4_findFewest_330 : decode cX4_findFewest 330 = .ok (.iconst 1, 1) := dk_4 (dk_at dksX4_findFewest_13 23 rfl rfl)
theorem dX4_findFewest_331 : decode cX4_findFewest 331 = .ok (.if_icmp .ne 7, 3) := dk_160 0 7 (dk_at dksX4_findFewest_14 0 rfl rfl)
theorem dX4_findFewest_334 : decode cX4_findFewest 334 = .ok (.iconst 2, 1) := dk_5 (dk_at dksX4_findFewest_14 3 rfl rfl)
theorem dX4_findFewest_335 : decode cX4_findFewest 335 = .ok (.goto 19, 3) := dk_167 0 19 (dk_at dksX4_findFewest_14 4 rfl rfl)
theorem dX4_findFewest_338 : decode cX4_findFewest 338 = .ok (.iload 4, 2) := dk_21 4 (dk_at dksX4_findFewest_14 7 rfl rfl)
theorem dX4_findFewest_340 : decode cX4_findFewest 340 = .ok (.iload 5, 2) := dk_21 5 (dk_at dksX4_findFewest_14 9 rfl rfl)
theorem dX4_findFewest_342 : decode cX4_findFewest 342 = .ok (.ishr, 1) := dk_122 (dk_at dksX4_findFewest_14 11 rfl rfl)
theorem dX4_findFewest_343 : decode cX4_findFewest 343 = .ok (.iconst 1, 1) := dk_4 (dk_at dksX4_findFewest_14 12 rfl rfl)
theorem dX4_findFewest_344 : decode cX4_findFewest 344 = .ok (.iand, 1) := dk_126 (dk_at dksX4_findFewest_14 13 rfl rfl)
theorem dX4_findFewest_345 : decode cX4_findFewest 345 = .ok (.iconst 1, 1) := dk_4 (dk_at dksX4_findFewest_14 14 rfl rfl)
theorem dX4_findFewest_346 : decode cX4_findFewest 346 = .ok (.if_icmp .ne 7, 3) := dk_160 0 7 (dk_at dksX4_findFewest_14 15 rfl rfl)
theorem dX4_findFewest_349 : decode cX4_findFewest 349 = .ok (.iconst 3, 1) := dk_6 (dk_at dksX4_findFewest_14 18 rfl rfl)
theorem dX4_findFewest_350 : decode cX4_findFewest 350 = .ok (.goto 4, 3) := dk_167 0 4 (dk_at dksX4_findFewest_14 19 rfl rfl)
theorem dX4_findFewest_353 : decode cX4_findFewest 353 = .ok (.iconst 0, 1) := dk_3 (dk_at dksX4_findFewest_14 22 rfl rfl)
theorem dX4_findFewest_354 : decode cX4_findFewest 354 = .ok (.iastore, 1) := dk_79 (dk_at dksX4_findFewest_14 23 rfl rfl)
theorem dX4_findFewest_355 : decode cX4_findFewest 355 = .ok (.iinc 5 1, 3) := dk_132 5 1 (dk_at dksX4_findFewest_15 0 rfl rfl)
theorem dX4_findFewest_358 : decode cX4_findFewest 358 = .ok (.goto (-54), 3) := dk_167 255 202 (dk_at dksX4_findFewest_15 3 rfl rfl)
theorem dX4_findFewest_361 : decode cX4_findFewest 361 = .ok (.return_, 1) := dk_177 (dk_at dksX4_findFewest_15 6 rfl rfl)
abbrev cX4_areBoth : ByteArray := prog_21_method_59_code
def yX4_areBoth : MethodName := ⟨RX4, "areBoth", "(II)Z"⟩
def dkwX4_areBoth_5 : List UInt8 := [42, 180, 0, 146, 29, 46, 96, 42, 180, 0, 219, 21, 5, 104, 96, 161, 0, 7, 4, 167, 0, 4, 3, 172]
abbrev dktX4_areBoth_5 : List UInt8 := dkwX4_areBoth_5 ++ []
def dkwX4_areBoth_4 : List UInt8 := [180, 0, 134, 28, 46, 46, 184, 1, 175, 54, 5, 42, 180, 0, 143, 21, 4, 46, 42, 180, 0, 143, 29, 46]
abbrev dktX4_areBoth_4 : List UInt8 := dkwX4_areBoth_4 ++ dktX4_areBoth_5
def dkwX4_areBoth_3 : List UInt8 := [180, 0, 134, 27, 46, 46, 42, 180, 0, 109, 42, 180, 0, 134, 28, 46, 46, 42, 180, 0, 112, 42]
abbrev dktX4_areBoth_3 : List UInt8 := dkwX4_areBoth_3 ++ dktX4_areBoth_4
def dkwX4_areBoth_2 : List UInt8 := [28, 167, 0, 4, 27, 54, 4, 42, 180, 0, 109, 42, 180, 0, 134, 27, 46, 46, 42, 180, 0, 112, 42]
abbrev dktX4_areBoth_2 : List UInt8 := dkwX4_areBoth_2 ++ dktX4_areBoth_3
def dkwX4_areBoth_1 : List UInt8 := [180, 0, 143, 28, 46, 160, 0, 12, 27, 28, 162, 0, 7, 27, 167, 0, 4, 28, 62, 29, 27, 160, 0, 7]
abbrev dktX4_areBoth_1 : List UInt8 := dkwX4_areBoth_1 ++ dktX4_areBoth_2
def dkwX4_areBoth_0 : List UInt8 := [42, 180, 0, 143, 27, 46, 42, 180, 0, 143, 28, 46, 161, 0, 23, 42, 180, 0, 143, 27, 46, 42]
abbrev dktX4_areBoth_0 : List UInt8 := dkwX4_areBoth_0 ++ dktX4_areBoth_1
theorem dksX4_areBoth_0 : cX4_areBoth.data.toList.drop 0 = dktX4_areBoth_0 := by decide +kernel
theorem dksX4_areBoth_1 : cX4_areBoth.data.toList.drop 22 = dktX4_areBoth_1 := dk_seg dksX4_areBoth_0 22 rfl rfl
theorem dksX4_areBoth_2 : cX4_areBoth.data.toList.drop 46 = dktX4_areBoth_2 := dk_seg dksX4_areBoth_1 24 rfl rfl
theorem dksX4_areBoth_3 : cX4_areBoth.data.toList.drop 69 = dktX4_areBoth_3 := dk_seg dksX4_areBoth_2 23 rfl rfl
theorem dksX4_areBoth_4 : cX4_areBoth.data.toList.drop 91 = dktX4_areBoth_4 := dk_seg dksX4_areBoth_3 22 rfl rfl
theorem dksX4_areBoth_5 : cX4_areBoth.data.toList.drop 115 = dktX4_areBoth_5 := dk_seg dksX4_areBoth_4 24 rfl rfl
theorem dX4_areBoth_0 : decode cX4_areBoth 0 = .ok (.aload_n 0, 1) := dk_42 (dk_at dksX4_areBoth_0 0 rfl rfl)
theorem dX4_areBoth_1 : decode cX4_areBoth 1 = .ok (.getfield 143, 3) := dk_180 0 143 (dk_at dksX4_areBoth_0 1 rfl rfl)
theorem dX4_areBoth_4 : decode cX4_areBoth 4 = .ok (.iload_n 1, 1) := dk_27 (dk_at dksX4_areBoth_0 4 rfl rfl)
theorem dX4_areBoth_5 : decode cX4_areBoth 5 = .ok (.iaload, 1) := dk_46 (dk_at dksX4_areBoth_0 5 rfl rfl)
theorem dX4_areBoth_6 : decode cX4_areBoth 6 = .ok (.aload_n 0, 1) := dk_42 (dk_at dksX4_areBoth_0 6 rfl rfl)
theorem dX4_areBoth_7 : decode cX4_areBoth 7 = .ok (.getfield 143, 3) := dk_180 0 143 (dk_at dksX4_areBoth_0 7 rfl rfl)
theorem dX4_areBoth_10 : decode cX4_areBoth 10 = .ok (.iload_n 2, 1) := dk_28 (dk_at dksX4_areBoth_0 10 rfl rfl)
theorem dX4_areBoth_11 : decode cX4_areBoth 11 = .ok (.iaload, 1) := dk_46 (dk_at dksX4_areBoth_0 11 rfl rfl)
theorem dX4_areBoth_12 : decode cX4_areBoth 12 = .ok (.if_icmp .lt 23, 3) := dk_161 0 23 (dk_at dksX4_areBoth_0 12 rfl rfl)
theorem dX4_areBoth_15 : decode cX4_areBoth 15 = .ok (.aload_n 0, 1) := dk_42 (dk_at dksX4_areBoth_0 15 rfl rfl)
theorem dX4_areBoth_16 : decode cX4_areBoth 16 = .ok (.getfield 143, 3) := dk_180 0 143 (dk_at dksX4_areBoth_0 16 rfl rfl)
theorem dX4_areBoth_19 : decode cX4_areBoth 19 = .ok (.iload_n 1, 1) := dk_27 (dk_at dksX4_areBoth_0 19 rfl rfl)
theorem dX4_areBoth_20 : decode cX4_areBoth 20 = .ok (.iaload, 1) := dk_46 (dk_at dksX4_areBoth_0 20 rfl rfl)
theorem dX4_areBoth_21 : decode cX4_areBoth 21 = .ok (.aload_n 0, 1) := dk_42 (dk_at dksX4_areBoth_0 21 rfl rfl)
theorem dX4_areBoth_22 : decode cX4_areBoth 22 = .ok (.getfield 143, 3) := dk_180 0 143 (dk_at dksX4_areBoth_1 0 rfl rfl)
theorem dX4_areBoth_25 : decode cX4_areBoth 25 = .ok (.iload_n 2, 1) := dk_28 (dk_at dksX4_areBoth_1 3 rfl rfl)
theorem dX4_areBoth_26 : decode cX4_areBoth 26 = .ok (.iaload, 1) := dk_46 (dk_at dksX4_areBoth_1 4 rfl rfl)
theorem dX4_areBoth_27 : decode cX4_areBoth 27 = .ok (.if_icmp .ne 12, 3) := dk_160 0 12 (dk_at dksX4_areBoth_1 5 rfl rfl)
theorem dX4_areBoth_30 : decode cX4_areBoth 30 = .ok (.iload_n 1, 1) := dk_27 (dk_at dksX4_areBoth_1 8 rfl rfl)
theorem dX4_areBoth_31 : decode cX4_areBoth 31 = .ok (.iload_n 2, 1) := dk_28 (dk_at dksX4_areBoth_1 9 rfl rfl)
theorem dX4_areBoth_32 : decode cX4_areBoth 32 = .ok (.if_icmp .ge 7, 3) := dk_162 0 7 (dk_at dksX4_areBoth_1 10 rfl rfl)
theorem dX4_areBoth_35 : decode cX4_areBoth 35 = .ok (.iload_n 1, 1) := dk_27 (dk_at dksX4_areBoth_1 13 rfl rfl)
theorem dX4_areBoth_36 : decode cX4_areBoth 36 = .ok (.goto 4, 3) := dk_167 0 4 (dk_at dksX4_areBoth_1 14 rfl rfl)
theorem dX4_areBoth_39 : decode cX4_areBoth 39 = .ok (.iload_n 2, 1) := dk_28 (dk_at dksX4_areBoth_1 17 rfl rfl)
theorem dX4_areBoth_40 : decode cX4_areBoth 40 = .ok (.istore_n 3, 1) := dk_62 (dk_at dksX4_areBoth_1 18 rfl rfl)
theorem dX4_areBoth_41 : decode cX4_areBoth 41 = .ok (.iload_n 3, 1) := dk_29 (dk_at dksX4_areBoth_1 19 rfl rfl)
theorem dX4_areBoth_42 : decode cX4_areBoth 42 = .ok (.iload_n 1, 1) := dk_27 (dk_at dksX4_areBoth_1 20 rfl rfl)
theorem dX4_areBoth_43 : decode cX4_areBoth 43 = .ok (.if_icmp .ne 7, 3) := dk_160 0 7 (dk_at dksX4_areBoth_1 21 rfl rfl)
theorem dX4_areBoth_46 : decode cX4_areBoth 46 = .ok (.iload_n 2, 1) := dk_28 (dk_at dksX4_areBoth_2 0 rfl rfl)
theorem dX4_areBoth_47 : decode cX4_areBoth 47 = .ok (.goto 4, 3) := dk_167 0 4 (dk_at dksX4_areBoth_2 1 rfl rfl)
theorem dX4_areBoth_50 : decode cX4_areBoth 50 = .ok (.iload_n 1, 1) := dk_27 (dk_at dksX4_areBoth_2 4 rfl rfl)
theorem dX4_areBoth_51 : decode cX4_areBoth 51 = .ok (.istore 4, 2) := dk_54 4 (dk_at dksX4_areBoth_2 5 rfl rfl)
theorem dX4_areBoth_53 : decode cX4_areBoth 53 = .ok (.aload_n 0, 1) := dk_42 (dk_at dksX4_areBoth_2 7 rfl rfl)
theorem dX4_areBoth_54 : decode cX4_areBoth 54 = .ok (.getfield 109, 3) := dk_180 0 109 (dk_at dksX4_areBoth_2 8 rfl rfl)
theorem dX4_areBoth_57 : decode cX4_areBoth 57 = .ok (.aload_n 0, 1) := dk_42 (dk_at dksX4_areBoth_2 11 rfl rfl)
theorem dX4_areBoth_58 : decode cX4_areBoth 58 = .ok (.getfield 134, 3) := dk_180 0 134 (dk_at dksX4_areBoth_2 12 rfl rfl)
theorem dX4_areBoth_61 : decode cX4_areBoth 61 = .ok (.iload_n 1, 1) := dk_27 (dk_at dksX4_areBoth_2 15 rfl rfl)
theorem dX4_areBoth_62 : decode cX4_areBoth 62 = .ok (.iaload, 1) := dk_46 (dk_at dksX4_areBoth_2 16 rfl rfl)
theorem dX4_areBoth_63 : decode cX4_areBoth 63 = .ok (.iaload, 1) := dk_46 (dk_at dksX4_areBoth_2 17 rfl rfl)
theorem dX4_areBoth_64 : decode cX4_areBoth 64 = .ok (.aload_n 0, 1) := dk_42 (dk_at dksX4_areBoth_2 18 rfl rfl)
theorem dX4_areBoth_65 : decode cX4_areBoth 65 = .ok (.getfield 112, 3) := dk_180 0 112 (dk_at dksX4_areBoth_2 19 rfl rfl)
theorem dX4_areBoth_68 : decode cX4_areBoth 68 = .ok (.aload_n 0, 1) := dk_42 (dk_at dksX4_areBoth_2 22 rfl rfl)
theorem dX4_areBoth_69 : decode cX4_areBoth 69 = .ok (.getfield 134, 3) := dk_180 0 134 (dk_at dksX4_areBoth_3 0 rfl rfl)
theorem dX4_areBoth_72 : decode cX4_areBoth 72 = .ok (.iload_n 1, 1) := dk_27 (dk_at dksX4_areBoth_3 3 rfl rfl)
theorem dX4_areBoth_73 : decode cX4_areBoth 73 = .ok (.iaload, 1) := dk_46 (dk_at dksX4_areBoth_3 4 rfl rfl)
theorem dX4_areBoth_74 : decode cX4_areBoth 74 = .ok (.iaload, 1) := dk_46 (dk_at dksX4_areBoth_3 5 rfl rfl)
theorem dX4_areBoth_75 : decode cX4_areBoth 75 = .ok (.aload_n 0, 1) := dk_42 (dk_at dksX4_areBoth_3 6 rfl rfl)
theorem dX4_areBoth_76 : decode cX4_areBoth 76 = .ok (.getfield 109, 3) := dk_180 0 109 (dk_at dksX4_areBoth_3 7 rfl rfl)
theorem dX4_areBoth_79 : decode cX4_areBoth 79 = .ok (.aload_n 0, 1) := dk_42 (dk_at dksX4_areBoth_3 10 rfl rfl)
theorem dX4_areBoth_80 : decode cX4_areBoth 80 = .ok (.getfield 134, 3) := dk_180 0 134 (dk_at dksX4_areBoth_3 11 rfl rfl)
theorem dX4_areBoth_83 : decode cX4_areBoth 83 = .ok (.iload_n 2, 1) := dk_28 (dk_at dksX4_areBoth_3 14 rfl rfl)
theorem dX4_areBoth_84 : decode cX4_areBoth 84 = .ok (.iaload, 1) := dk_46 (dk_at dksX4_areBoth_3 15 rfl rfl)
theorem dX4_areBoth_85 : decode cX4_areBoth 85 = .ok (.iaload, 1) := dk_46 (dk_at dksX4_areBoth_3 16 rfl rfl)
theorem dX4_areBoth_86 : decode cX4_areBoth 86 = .ok (.aload_n 0, 1) := dk_42 (dk_at dksX4_areBoth_3 17 rfl rfl)
theorem dX4_areBoth_87 : decode cX4_areBoth 87 = .ok (.getfield 112, 3) := dk_180 0 112 (dk_at dksX4_areBoth_3 18 rfl rfl)
theorem dX4_areBoth_90 : decode cX4_areBoth 90 = .ok (.aload_n 0, 1) := dk_42 (dk_at dksX4_areBoth_3 21 rfl rfl)
theorem dX4_areBoth_91 : decode cX4_areBoth 91 = .ok (.getfield 134, 3) := dk_180 0 134 (dk_at dksX4_areBoth_4 0 rfl rfl)
theorem dX4_areBoth_94 : decode cX4_areBoth 94 = .ok (.iload_n 2, 1) := dk_28 (dk_at dksX4_areBoth_4 3 rfl rfl)
theorem dX4_areBoth_95 : decode cX4_areBoth 95 = .ok (.iaload, 1) := dk_46 (dk_at dksX4_areBoth_4 4 rfl rfl)
theorem dX4_areBoth_96 : decode cX4_areBoth 96 = .ok (.iaload, 1) := dk_46 (dk_at dksX4_areBoth_4 5 rfl rfl)
theorem dX4_areBoth_97 : decode cX4_areBoth 97 = .ok (.invokestatic 431, 3) := dk_184 1 175 (dk_at dksX4_areBoth_4 6 rfl rfl)
theorem dX4_areBoth_100 : decode cX4_areBoth 100 = .ok (.istore 5, 2) := dk_54 5 (dk_at dksX4_areBoth_4 9 rfl rfl)
theorem dX4_areBoth_102 : decode cX4_areBoth 102 = .ok (.aload_n 0, 1) := dk_42 (dk_at dksX4_areBoth_4 11 rfl rfl)
theorem dX4_areBoth_103 : decode cX4_areBoth 103 = .ok (.getfield 143, 3) := dk_180 0 143 (dk_at dksX4_areBoth_4 12 rfl rfl)
theorem dX4_areBoth_106 : decode cX4_areBoth 106 = .ok (.iload 4, 2) := dk_21 4 (dk_at dksX4_areBoth_4 15 rfl rfl)
theorem dX4_areBoth_108 : decode cX4_areBoth 108 = .ok (.iaload, 1) := dk_46 (dk_at dksX4_areBoth_4 17 rfl rfl)
theorem dX4_areBoth_109 : decode cX4_areBoth 109 = .ok (.aload_n 0, 1) := dk_42 (dk_at dksX4_areBoth_4 18 rfl rfl)
theorem dX4_areBoth_110 : decode cX4_areBoth 110 = .ok (.getfield 143, 3) := dk_180 0 143 (dk_at dksX4_areBoth_4 19 rfl rfl)
theorem dX4_areBoth_113 : decode cX4_areBoth 113 = .ok (.iload_n 3, 1) := dk_29 (dk_at dksX4_areBoth_4 22 rfl rfl)
theorem dX4_areBoth_114 : decode cX4_areBoth 114 = .ok (.iaload, 1) := dk_46 (dk_at dksX4_areBoth_4 23 rfl rfl)
theorem dX4_areBoth_115 : decode cX4_areBoth 115 = .ok (.aload_n 0, 1) := dk_42 (dk_at dksX4_areBoth_5 0 rfl rfl)
theorem dX4_areBoth_116 : decode cX4_areBoth 116 = .ok (.getfield 146, 3) := dk_180 0 146 (dk_at dksX4_areBoth_5 1 rfl rfl)
theorem dX4_areBoth_119 : decode cX4_areBoth 119 = .ok (.iload_n 3, 1) := dk_29 (dk_at dksX4_areBoth_5 4 rfl rfl)
theorem dX4_areBoth_120 : decode cX4_areBoth 120 = .ok (.iaload, 1) := dk_46 (dk_at dksX4_areBoth_5 5 rfl rfl)
theorem dX4_areBoth_121 : decode cX4_areBoth 121 = .ok (.iadd, 1) := dk_96 (dk_at dksX4_areBoth_5 6 rfl rfl)
theorem dX4_areBoth_122 : decode cX4_areBoth 122 = .ok (.aload_n 0, 1) := dk_42 (dk_at dksX4_areBoth_5 7 rfl rfl)
theorem dX4_areBoth_123 : decode cX4_areBoth 123 = .ok (.getfield 219, 3) := dk_180 0 219 (dk_at dksX4_areBoth_5 8 rfl rfl)
theorem dX4_areBoth_126 : decode cX4_areBoth 126 = .ok (.iload 5, 2) := dk_21 5 (dk_at dksX4_areBoth_5 11 rfl rfl)
theorem dX4_areBoth_128 : decode cX4_areBoth 128 = .ok (.imul, 1) := dk_104 (dk_at dksX4_areBoth_5 13 rfl rfl)
theorem dX4_areBoth_129 : decode cX4_areBoth 129 = .ok (.iadd, 1) := dk_96 (dk_at dksX4_areBoth_5 14 rfl rfl)
theorem dX4_areBoth_130 : decode cX4_areBoth 130 = .ok (.if_icmp .lt 7, 3) := dk_161 0 7 (dk_at dksX4_areBoth_5 15 rfl rfl)
theorem dX4_areBoth_133 : decode cX4_areBoth 133 = .ok (.iconst 1, 1) := dk_4 (dk_at dksX4_areBoth_5 18 rfl rfl)
theorem dX4_areBoth_134 : decode cX4_areBoth 134 = .ok (.goto 4, 3) := dk_167 0 4 (dk_at dksX4_areBoth_5 19 rfl rfl)
theorem dX4_areBoth_137 : decode cX4_areBoth 137 = .ok (.iconst 0, 1) := dk_3 (dk_at dksX4_areBoth_5 22 rfl rfl)
theorem dX4_areBoth_138 : decode cX4_areBoth 138 = .ok (.ireturn, 1) := dk_172 (dk_at dksX4_areBoth_5 23 rfl rfl)
abbrev cX4_wayBetween : ByteArray := prog_21_method_58_code
def yX4_wayBetween : MethodName := ⟨RX4, "wayBetween", "(IIII)I"⟩
def dkwX4_wayBetween_1 : List UInt8 := [167, 0, 6, 27, 29, 100, 96, 172]
abbrev dktX4_wayBetween_1 : List UInt8 := dkwX4_wayBetween_1 ++ []
def dkwX4_wayBetween_0 : List UInt8 := [26, 28, 162, 0, 9, 28, 26, 100, 167, 0, 6, 26, 28, 100, 27, 29, 162, 0, 9, 29, 27, 100]
abbrev dktX4_wayBetween_0 : List UInt8 := dkwX4_wayBetween_0 ++ dktX4_wayBetween_1
theorem dksX4_wayBetween_0 : cX4_wayBetween.data.toList.drop 0 = dktX4_wayBetween_0 := by decide +kernel
theorem dksX4_wayBetween_1 : cX4_wayBetween.data.toList.drop 22 = dktX4_wayBetween_1 := dk_seg dksX4_wayBetween_0 22 rfl rfl
theorem dX4_wayBetween_0 : decode cX4_wayBetween 0 = .ok (.iload_n 0, 1) := dk_26 (dk_at dksX4_wayBetween_0 0 rfl rfl)
theorem dX4_wayBetween_1 : decode cX4_wayBetween 1 = .ok (.iload_n 2, 1) := dk_28 (dk_at dksX4_wayBetween_0 1 rfl rfl)
theorem dX4_wayBetween_2 : decode cX4_wayBetween 2 = .ok (.if_icmp .ge 9, 3) := dk_162 0 9 (dk_at dksX4_wayBetween_0 2 rfl rfl)
theorem dX4_wayBetween_5 : decode cX4_wayBetween 5 = .ok (.iload_n 2, 1) := dk_28 (dk_at dksX4_wayBetween_0 5 rfl rfl)
theorem dX4_wayBetween_6 : decode cX4_wayBetween 6 = .ok (.iload_n 0, 1) := dk_26 (dk_at dksX4_wayBetween_0 6 rfl rfl)
theorem dX4_wayBetween_7 : decode cX4_wayBetween 7 = .ok (.isub, 1) := dk_100 (dk_at dksX4_wayBetween_0 7 rfl rfl)
theorem dX4_wayBetween_8 : decode cX4_wayBetween 8 = .ok (.goto 6, 3) := dk_167 0 6 (dk_at dksX4_wayBetween_0 8 rfl rfl)
theorem dX4_wayBetween_11 : decode cX4_wayBetween 11 = .ok (.iload_n 0, 1) := dk_26 (dk_at dksX4_wayBetween_0 11 rfl rfl)
theorem dX4_wayBetween_12 : decode cX4_wayBetween 12 = .ok (.iload_n 2, 1) := dk_28 (dk_at dksX4_wayBetween_0 12 rfl rfl)
theorem dX4_wayBetween_13 : decode cX4_wayBetween 13 = .ok (.isub, 1) := dk_100 (dk_at dksX4_wayBetween_0 13 rfl rfl)
theorem dX4_wayBetween_14 : decode cX4_wayBetween 14 = .ok (.iload_n 1, 1) := dk_27 (dk_at dksX4_wayBetween_0 14 rfl rfl)
theorem dX4_wayBetween_15 : decode cX4_wayBetween 15 = .ok (.iload_n 3, 1) := dk_29 (dk_at dksX4_wayBetween_0 15 rfl rfl)
theorem dX4_wayBetween_16 : decode cX4_wayBetween 16 = .ok (.if_icmp .ge 9, 3) := dk_162 0 9 (dk_at dksX4_wayBetween_0 16 rfl rfl)
theorem dX4_wayBetween_19 : decode cX4_wayBetween 19 = .ok (.iload_n 3, 1) := dk_29 (dk_at dksX4_wayBetween_0 19 rfl rfl)
theorem dX4_wayBetween_20 : decode cX4_wayBetween 20 = .ok (.iload_n 1, 1) := dk_27 (dk_at dksX4_wayBetween_0 20 rfl rfl)
theorem dX4_wayBetween_21 : decode cX4_wayBetween 21 = .ok (.isub, 1) := dk_100 (dk_at dksX4_wayBetween_0 21 rfl rfl)
theorem dX4_wayBetween_22 : decode cX4_wayBetween 22 = .ok (.goto 6, 3) := dk_167 0 6 (dk_at dksX4_wayBetween_1 0 rfl rfl)
theorem dX4_wayBetween_25 : decode cX4_wayBetween 25 = .ok (.iload_n 1, 1) := dk_27 (dk_at dksX4_wayBetween_1 3 rfl rfl)
theorem dX4_wayBetween_26 : decode cX4_wayBetween 26 = .ok (.iload_n 3, 1) := dk_29 (dk_at dksX4_wayBetween_1 4 rfl rfl)
theorem dX4_wayBetween_27 : decode cX4_wayBetween 27 = .ok (.isub, 1) := dk_100 (dk_at dksX4_wayBetween_1 5 rfl rfl)
theorem dX4_wayBetween_28 : decode cX4_wayBetween 28 = .ok (.iadd, 1) := dk_96 (dk_at dksX4_wayBetween_1 6 rfl rfl)
theorem dX4_wayBetween_29 : decode cX4_wayBetween 29 = .ok (.ireturn, 1) := dk_172 (dk_at dksX4_wayBetween_1 7 rfl rfl)
abbrev cX4_doesDo : ByteArray := prog_21_method_62_code
def yX4_doesDo : MethodName := ⟨RX4, "doesDo", "(I)Z"⟩
def dkwX4_doesDo_2 : List UInt8 := [172, 132, 3, 1, 167, 255, 216, 132, 2, 1, 167, 255, 200, 4, 172]
abbrev dktX4_doesDo_2 : List UInt8 := dkwX4_doesDo_2 ++ []
def dkwX4_doesDo_1 : List UInt8 := [104, 29, 96, 51, 153, 0, 21, 27, 28, 122, 4, 126, 154, 0, 13, 27, 29, 122, 4, 126, 154, 0, 5, 3]
abbrev dktX4_doesDo_1 : List UInt8 := dkwX4_doesDo_1 ++ dktX4_doesDo_2
def dkwX4_doesDo_0 : List UInt8 := [3, 61, 28, 42, 180, 1, 179, 162, 0, 54, 3, 62, 29, 28, 162, 0, 41, 42, 180, 0, 182, 16, 12, 28]
abbrev dktX4_doesDo_0 : List UInt8 := dkwX4_doesDo_0 ++ dktX4_doesDo_1
theorem dksX4_doesDo_0 : cX4_doesDo.data.toList.drop 0 = dktX4_doesDo_0 := by decide +kernel
theorem dksX4_doesDo_1 : cX4_doesDo.data.toList.drop 24 = dktX4_doesDo_1 := dk_seg dksX4_doesDo_0 24 rfl rfl
theorem dksX4_doesDo_2 : cX4_doesDo.data.toList.drop 48 = dktX4_doesDo_2 := dk_seg dksX4_doesDo_1 24 rfl rfl
theorem dX4_doesDo_0 : decode cX4_doesDo 0 = .ok (.iconst 0, 1) := dk_3 (dk_at dksX4_doesDo_0 0 rfl rfl)
theorem dX4_doesDo_1 : decode cX4_doesDo 1 = .ok (.istore_n 2, 1) := dk_61 (dk_at dksX4_doesDo_0 1 rfl rfl)
theorem dX4_doesDo_2 : decode cX4_doesDo 2 = .ok (.iload_n 2, 1) := dk_28 (dk_at dksX4_doesDo_0 2 rfl rfl)
theorem dX4_doesDo_3 : decode cX4_doesDo 3 = .ok (.aload_n 0, 1) := dk_42 (dk_at dksX4_doesDo_0 3 rfl rfl)
theorem dX4_doesDo_4 : decode cX4_doesDo 4 = .ok (.getfield 435, 3) := dk_180 1 179 (dk_at dksX4_doesDo_0 4 rfl rfl)
theorem dX4_doesDo_7 : decode cX4_doesDo 7 = .ok (.if_icmp .ge 54, 3) := dk_162 0 54 (dk_at dksX4_doesDo_0 7 rfl rfl)
theorem dX4_doesDo_10 : decode cX4_doesDo 10 = .ok (.iconst 0, 1) := dk_3 (dk_at dksX4_doesDo_0 10 rfl rfl)
theorem dX4_doesDo_11 : decode cX4_doesDo 11 = .ok (.istore_n 3, 1) := dk_62 (dk_at dksX4_doesDo_0 11 rfl rfl)
theorem dX4_doesDo_12 : decode cX4_doesDo 12 = .ok (.iload_n 3, 1) := dk_29 (dk_at dksX4_doesDo_0 12 rfl rfl)
theorem dX4_doesDo_13 : decode cX4_doesDo 13 = .ok (.iload_n 2, 1) := dk_28 (dk_at dksX4_doesDo_0 13 rfl rfl)
theorem dX4_doesDo_14 : decode cX4_doesDo 14 = .ok (.if_icmp .ge 41, 3) := dk_162 0 41 (dk_at dksX4_doesDo_0 14 rfl rfl)
theorem dX4_doesDo_17 : decode cX4_doesDo 17 = .ok (.aload_n 0, 1) := dk_42 (dk_at dksX4_doesDo_0 17 rfl rfl)
theorem dX4_doesDo_18 : decode cX4_doesDo 18 = .ok (.getfield 182, 3) := dk_180 0 182 (dk_at dksX4_doesDo_0 18 rfl rfl)
theorem dX4_doesDo_21 : decode cX4_doesDo 21 = .ok (.bipush 12, 2) := dk_16 12 (dk_at dksX4_doesDo_0 21 rfl rfl)
theorem dX4_doesDo_23 : decode cX4_doesDo 23 = .ok (.iload_n 2, 1) := dk_28 (dk_at dksX4_doesDo_0 23 rfl rfl)
theorem dX4_doesDo_24 : decode cX4_doesDo 24 = .ok (.imul, 1) := dk_104 (dk_at dksX4_doesDo_1 0 rfl rfl)
theorem dX4_doesDo_25 : decode cX4_doesDo 25 = .ok (.iload_n 3, 1) := dk_29 (dk_at dksX4_doesDo_1 1 rfl rfl)
theorem dX4_doesDo_26 : decode cX4_doesDo 26 = .ok (.iadd, 1) := dk_96 (dk_at dksX4_doesDo_1 2 rfl rfl)
theorem dX4_doesDo_27 : decode cX4_doesDo 27 = .ok (.baload, 1) := dk_51 (dk_at dksX4_doesDo_1 3 rfl rfl)
theorem dX4_doesDo_28 : decode cX4_doesDo 28 = .ok (.ifCond .eq 21, 3) := dk_153 0 21 (dk_at dksX4_doesDo_1 4 rfl rfl)
theorem dX4_doesDo_31 : decode cX4_doesDo 31 = .ok (.iload_n 1, 1) := dk_27 (dk_at dksX4_doesDo_1 7 rfl rfl)
theorem dX4_doesDo_32 : decode cX4_doesDo 32 = .ok (.iload_n 2, 1) := dk_28 (dk_at dksX4_doesDo_1 8 rfl rfl)
theorem dX4_doesDo_33 : decode cX4_doesDo 33 = .ok (.ishr, 1) := dk_122 (dk_at dksX4_doesDo_1 9 rfl rfl)
theorem dX4_doesDo_34 : decode cX4_doesDo 34 = .ok (.iconst 1, 1) := dk_4 (dk_at dksX4_doesDo_1 10 rfl rfl)
theorem dX4_doesDo_35 : decode cX4_doesDo 35 = .ok (.iand, 1) := dk_126 (dk_at dksX4_doesDo_1 11 rfl rfl)
theorem dX4_doesDo_36 : decode cX4_doesDo 36 = .ok (.ifCond .ne 13, 3) := dk_154 0 13 (dk_at dksX4_doesDo_1 12 rfl rfl)
theorem dX4_doesDo_39 : decode cX4_doesDo 39 = .ok (.iload_n 1, 1) := dk_27 (dk_at dksX4_doesDo_1 15 rfl rfl)
theorem dX4_doesDo_40 : decode cX4_doesDo 40 = .ok (.iload_n 3, 1) := dk_29 (dk_at dksX4_doesDo_1 16 rfl rfl)
theorem dX4_doesDo_41 : decode cX4_doesDo 41 = .ok (.ishr, 1) := dk_122 (dk_at dksX4_doesDo_1 17 rfl rfl)
theorem dX4_doesDo_42 : decode cX4_doesDo 42 = .ok (.iconst 1, 1) := dk_4 (dk_at dksX4_doesDo_1 18 rfl rfl)
theorem dX4_doesDo_43 : decode cX4_doesDo 43 = .ok (.iand, 1) := dk_126 (dk_at dksX4_doesDo_1 19 rfl rfl)
theorem dX4_doesDo_44 : decode cX4_doesDo 44 = .ok (.ifCond .ne 5, 3) := dk_154 0 5 (dk_at dksX4_doesDo_1 20 rfl rfl)
theorem dX4_doesDo_47 : decode cX4_doesDo 47 = .ok (.iconst 0, 1) := dk_3 (dk_at dksX4_doesDo_1 23 rfl rfl)
theorem dX4_doesDo_48 : decode cX4_doesDo 48 = .ok (.ireturn, 1) := dk_172 (dk_at dksX4_doesDo_2 0 rfl rfl)
theorem dX4_doesDo_49 : decode cX4_doesDo 49 = .ok (.iinc 3 1, 3) := dk_132 3 1 (dk_at dksX4_doesDo_2 1 rfl rfl)
theorem dX4_doesDo_52 : decode cX4_doesDo 52 = .ok (.goto (-40), 3) := dk_167 255 216 (dk_at dksX4_doesDo_2 4 rfl rfl)
theorem dX4_doesDo_55 : decode cX4_doesDo 55 = .ok (.iinc 2 1, 3) := dk_132 2 1 (dk_at dksX4_doesDo_2 7 rfl rfl)
theorem dX4_doesDo_58 : decode cX4_doesDo 58 = .ok (.goto (-56), 3) := dk_167 255 200 (dk_at dksX4_doesDo_2 10 rfl rfl)
theorem dX4_doesDo_61 : decode cX4_doesDo 61 = .ok (.iconst 1, 1) := dk_4 (dk_at dksX4_doesDo_2 13 rfl rfl)
theorem dX4_doesDo_62 : decode cX4_doesDo 62 = .ok (.ireturn, 1) := dk_172 (dk_at dksX4_doesDo_2 14 rfl rfl)
abbrev cX4_isFirst : ByteArray := prog_21_method_61_code
def yX4_isFirst : MethodName := ⟨RX4, "isFirst", "(II)Z"⟩
def dkwX4_isFirst_0 : List UInt8 := [26, 27, 130, 61, 26, 28, 126, 28, 116, 126, 153, 0, 7, 4, 167, 0, 4, 3, 172]
abbrev dktX4_isFirst_0 : List UInt8 := dkwX4_isFirst_0 ++ []
theorem dksX4_isFirst_0 : cX4_isFirst.data.toList.drop 0 = dktX4_isFirst_0 := by decide +kernel
theorem dX4_isFirst_0 : decode cX4_isFirst 0 = .ok (.iload_n 0, 1) := dk_26 (dk_at dksX4_isFirst_0 0 rfl rfl)
theorem dX4_isFirst_1 : decode cX4_isFirst 1 = .ok (.iload_n 1, 1) := dk_27 (dk_at dksX4_isFirst_0 1 rfl rfl)
theorem dX4_isFirst_2 : decode cX4_isFirst 2 = .ok (.ixor, 1) := dk_130 (dk_at dksX4_isFirst_0 2 rfl rfl)
theorem dX4_isFirst_3 : decode cX4_isFirst 3 = .ok (.istore_n 2, 1) := dk_61 (dk_at dksX4_isFirst_0 3 rfl rfl)
theorem dX4_isFirst_4 : decode cX4_isFirst 4 = .ok (.iload_n 0, 1) := dk_26 (dk_at dksX4_isFirst_0 4 rfl rfl)
theorem dX4_isFirst_5 : decode cX4_isFirst 5 = .ok (.iload_n 2, 1) := dk_28 (dk_at dksX4_isFirst_0 5 rfl rfl)
theorem dX4_isFirst_6 : decode cX4_isFirst 6 = .ok (.iand, 1) := dk_126 (dk_at dksX4_isFirst_0 6 rfl rfl)
theorem dX4_isFirst_7 : decode cX4_isFirst 7 = .ok (.iload_n 2, 1) := dk_28 (dk_at dksX4_isFirst_0 7 rfl rfl)
theorem dX4_isFirst_8 : decode cX4_isFirst 8 = .ok (.ineg, 1) := dk_116 (dk_at dksX4_isFirst_0 8 rfl rfl)
theorem dX4_isFirst_9 : decode cX4_isFirst 9 = .ok (.iand, 1) := dk_126 (dk_at dksX4_isFirst_0 9 rfl rfl)
theorem dX4_isFirst_10 : decode cX4_isFirst 10 = .ok (.ifCond .eq 7, 3) := dk_153 0 7 (dk_at dksX4_isFirst_0 10 rfl rfl)
theorem dX4_isFirst_13 : decode cX4_isFirst 13 = .ok (.iconst 1, 1) := dk_4 (dk_at dksX4_isFirst_0 13 rfl rfl)
theorem dX4_isFirst_14 : decode cX4_isFirst 14 = .ok (.goto 4, 3) := dk_167 0 4 (dk_at dksX4_isFirst_0 14 rfl rfl)
theorem dX4_isFirst_17 : decode cX4_isFirst 17 = .ok (.iconst 0, 1) := dk_3 (dk_at dksX4_isFirst_0 17 rfl rfl)
theorem dX4_isFirst_18 : decode cX4_isFirst 18 = .ok (.ireturn, 1) := dk_172 (dk_at dksX4_isFirst_0 18 rfl rfl)
abbrev cX4_counts : ByteArray := prog_21_method_63_code
def yX4_counts : MethodName := ⟨RX4, "counts", "(I)Z"⟩
def dkwX4_counts_1 : List UInt8 := [160, 0, 7, 4, 167, 0, 4, 3, 172]
abbrev dktX4_counts_1 : List UInt8 := dkwX4_counts_1 ++ []
def dkwX4_counts_0 : List UInt8 := [42, 27, 182, 1, 138, 153, 0, 26, 42, 180, 0, 176, 27, 46, 153, 0, 13, 42, 180, 0, 176, 27, 46, 6]
abbrev dktX4_counts_0 : List UInt8 := dkwX4_counts_0 ++ dktX4_counts_1
theorem dksX4_counts_0 : cX4_counts.data.toList.drop 0 = dktX4_counts_0 := by decide +kernel
theorem dksX4_counts_1 : cX4_counts.data.toList.drop 24 = dktX4_counts_1 := dk_seg dksX4_counts_0 24 rfl rfl
theorem dX4_counts_0 : decode cX4_counts 0 = .ok (.aload_n 0, 1) := dk_42 (dk_at dksX4_counts_0 0 rfl rfl)
theorem dX4_counts_1 : decode cX4_counts 1 = .ok (.iload_n 1, 1) := dk_27 (dk_at dksX4_counts_0 1 rfl rfl)
theorem dX4_counts_2 : decode cX4_counts 2 = .ok (.invokevirtual 394, 3) := dk_182 1 138 (dk_at dksX4_counts_0 2 rfl rfl)
theorem dX4_counts_5 : decode cX4_counts 5 = .ok (.ifCond .eq 26, 3) := dk_153 0 26 (dk_at dksX4_counts_0 5 rfl rfl)
theorem dX4_counts_8 : decode cX4_counts 8 = .ok (.aload_n 0, 1) := dk_42 (dk_at dksX4_counts_0 8 rfl rfl)
theorem dX4_counts_9 : decode cX4_counts 9 = .ok (.getfield 176, 3) := dk_180 0 176 (dk_at dksX4_counts_0 9 rfl rfl)
theorem dX4_counts_12 : decode cX4_counts 12 = .ok (.iload_n 1, 1) := dk_27 (dk_at dksX4_counts_0 12 rfl rfl)
theorem dX4_counts_13 : decode cX4_counts 13 = .ok (.iaload, 1) := dk_46 (dk_at dksX4_counts_0 13 rfl rfl)
theorem dX4_counts_14 : decode cX4_counts 14 = .ok (.ifCond .eq 13, 3) := dk_153 0 13 (dk_at dksX4_counts_0 14 rfl rfl)
theorem dX4_counts_17 : decode cX4_counts 17 = .ok (.aload_n 0, 1) := dk_42 (dk_at dksX4_counts_0 17 rfl rfl)
theorem dX4_counts_18 : decode cX4_counts 18 = .ok (.getfield 176, 3) := dk_180 0 176 (dk_at dksX4_counts_0 18 rfl rfl)
theorem dX4_counts_21 : decode cX4_counts 21 = .ok (.iload_n 1, 1) := dk_27 (dk_at dksX4_counts_0 21 rfl rfl)
theorem dX4_counts_22 : decode cX4_counts 22 = .ok (.iaload, 1) := dk_46 (dk_at dksX4_counts_0 22 rfl rfl)
theorem dX4_counts_23 : decode cX4_counts 23 = .ok (.iconst 3, 1) := dk_6 (dk_at dksX4_counts_0 23 rfl rfl)
theorem dX4_counts_24 : decode cX4_counts 24 = .ok (.if_icmp .ne 7, 3) := dk_160 0 7 (dk_at dksX4_counts_1 0 rfl rfl)
theorem dX4_counts_27 : decode cX4_counts 27 = .ok (.iconst 1, 1) := dk_4 (dk_at dksX4_counts_1 3 rfl rfl)
theorem dX4_counts_28 : decode cX4_counts 28 = .ok (.goto 4, 3) := dk_167 0 4 (dk_at dksX4_counts_1 4 rfl rfl)
theorem dX4_counts_31 : decode cX4_counts 31 = .ok (.iconst 0, 1) := dk_3 (dk_at dksX4_counts_1 7 rfl rfl)
theorem dX4_counts_32 : decode cX4_counts 32 = .ok (.ireturn, 1) := dk_172 (dk_at dksX4_counts_1 8 rfl rfl)
abbrev cX4_fewest : ByteArray := prog_21_method_65_code
def yX4_fewest : MethodName := ⟨RX4, "fewest", "(II)I"⟩
def dkwX4_fewest_1 : List UInt8 := [182, 1, 194, 42, 27, 28, 182, 1, 169, 42, 180, 1, 172, 172]
abbrev dktX4_fewest_1 : List UInt8 := dkwX4_fewest_1 ++ []
def dkwX4_fewest_0 : List UInt8 := [42, 3, 181, 0, 1, 42, 27, 182, 1, 122, 153, 0, 10, 28, 184, 1, 200, 154, 0, 5, 2, 172, 42]
abbrev dktX4_fewest_0 : List UInt8 := dkwX4_fewest_0 ++ dktX4_fewest_1
theorem dksX4_fewest_0 : cX4_fewest.data.toList.drop 0 = dktX4_fewest_0 := by decide +kernel
theorem dksX4_fewest_1 : cX4_fewest.data.toList.drop 23 = dktX4_fewest_1 := dk_seg dksX4_fewest_0 23 rfl rfl
theorem dX4_fewest_0 : decode cX4_fewest 0 = .ok (.aload_n 0, 1) := dk_42 (dk_at dksX4_fewest_0 0 rfl rfl)
theorem dX4_fewest_1 : decode cX4_fewest 1 = .ok (.iconst 0, 1) := dk_3 (dk_at dksX4_fewest_0 1 rfl rfl)
theorem dX4_fewest_2 : decode cX4_fewest 2 = .ok (.putfield 1, 3) := dk_181 0 1 (dk_at dksX4_fewest_0 2 rfl rfl)
theorem dX4_fewest_5 : decode cX4_fewest 5 = .ok (.aload_n 0, 1) := dk_42 (dk_at dksX4_fewest_0 5 rfl rfl)
theorem dX4_fewest_6 : decode cX4_fewest 6 = .ok (.iload_n 1, 1) := dk_27 (dk_at dksX4_fewest_0 6 rfl rfl)
theorem dX4_fewest_7 : decode cX4_fewest 7 = .ok (.invokevirtual 378, 3) := dk_182 1 122 (dk_at dksX4_fewest_0 7 rfl rfl)
theorem dX4_fewest_10 : decode cX4_fewest 10 = .ok (.ifCond .eq 10, 3) := dk_153 0 10 (dk_at dksX4_fewest_0 10 rfl rfl)
theorem dX4_fewest_13 : decode cX4_fewest 13 = .ok (.iload_n 2, 1) := dk_28 (dk_at dksX4_fewest_0 13 rfl rfl)
theorem dX4_fewest_14 : decode cX4_fewest 14 = .ok (.invokestatic 456, 3) := dk_184 1 200 (dk_at dksX4_fewest_0 14 rfl rfl)
theorem dX4_fewest_17 : decode cX4_fewest 17 = .ok (.ifCond .ne 5, 3) := dk_154 0 5 (dk_at dksX4_fewest_0 17 rfl rfl)
theorem dX4_fewest_20 : decode cX4_fewest 20 = .ok (.iconst (-1), 1) := dk_2 (dk_at dksX4_fewest_0 20 rfl rfl)
theorem dX4_fewest_21 : decode cX4_fewest 21 = .ok (.ireturn, 1) := dk_172 (dk_at dksX4_fewest_0 21 rfl rfl)
theorem dX4_fewest_22 : decode cX4_fewest 22 = .ok (.aload_n 0, 1) := dk_42 (dk_at dksX4_fewest_0 22 rfl rfl)
theorem dX4_fewest_23 : decode cX4_fewest 23 = .ok (.invokevirtual 450, 3) := dk_182 1 194 (dk_at dksX4_fewest_1 0 rfl rfl)
theorem dX4_fewest_26 : decode cX4_fewest 26 = .ok (.aload_n 0, 1) := dk_42 (dk_at dksX4_fewest_1 3 rfl rfl)
theorem dX4_fewest_27 : decode cX4_fewest 27 = .ok (.iload_n 1, 1) := dk_27 (dk_at dksX4_fewest_1 4 rfl rfl)
theorem dX4_fewest_28 : decode cX4_fewest 28 = .ok (.iload_n 2, 1) := dk_28 (dk_at dksX4_fewest_1 5 rfl rfl)
theorem dX4_fewest_29 : decode cX4_fewest 29 = .ok (.invokevirtual 425, 3) := dk_182 1 169 (dk_at dksX4_fewest_1 6 rfl rfl)
theorem dX4_fewest_32 : decode cX4_fewest 32 = .ok (.aload_n 0, 1) := dk_42 (dk_at dksX4_fewest_1 9 rfl rfl)
theorem dX4_fewest_33 : decode cX4_fewest 33 = .ok (.getfield 428, 3) := dk_180 1 172 (dk_at dksX4_fewest_1 10 rfl rfl)
theorem dX4_fewest_36 : decode cX4_fewest 36 = .ok (.ireturn, 1) := dk_172 (dk_at dksX4_fewest_1 13 rfl rfl)
abbrev cX4_isDay : ByteArray := prog_21_method_36_code
def yX4_isDay : MethodName := ⟨RX4, "isDay", "(I)Z"⟩
def dkwX4_isDay_0 : List UInt8 := [26, 3, 17, 39, 15, 184, 1, 102, 172]
abbrev dktX4_isDay_0 : List UInt8 := dkwX4_isDay_0 ++ []
theorem dksX4_isDay_0 : cX4_isDay.data.toList.drop 0 = dktX4_isDay_0 := by decide +kernel
theorem dX4_isDay_0 : decode cX4_isDay 0 = .ok (.iload_n 0, 1) := dk_26 (dk_at dksX4_isDay_0 0 rfl rfl)
theorem dX4_isDay_1 : decode cX4_isDay 1 = .ok (.iconst 0, 1) := dk_3 (dk_at dksX4_isDay_0 1 rfl rfl)
theorem dX4_isDay_2 : decode cX4_isDay 2 = .ok (.sipush 9999, 3) := dk_17 39 15 (dk_at dksX4_isDay_0 2 rfl rfl)
theorem dX4_isDay_5 : decode cX4_isDay 5 = .ok (.invokestatic 358, 3) := dk_184 1 102 (dk_at dksX4_isDay_0 5 rfl rfl)
theorem dX4_isDay_8 : decode cX4_isDay 8 = .ok (.ireturn, 1) := dk_172 (dk_at dksX4_isDay_0 8 rfl rfl)
abbrev cX4_set : ByteArray := prog_21_method_66_code
def yX4_set : MethodName := ⟨RX4, "set", "(III)I"⟩
def dkwX4_set_3 : List UInt8 := [180, 0, 179, 21, 5, 46, 172, 132, 4, 255, 132, 5, 1, 167, 255, 215, 2, 172]
abbrev dktX4_set_3 : List UInt8 := dkwX4_set_3 ++ []
def dkwX4_set_2 : List UInt8 := [162, 0, 38, 42, 180, 1, 185, 21, 5, 122, 4, 126, 4, 160, 0, 19, 21, 4, 154, 0, 11, 42]
abbrev dktX4_set_2 : List UInt8 := dkwX4_set_2 ++ dktX4_set_3
def dkwX4_set_1 : List UInt8 := [2, 172, 42, 182, 1, 194, 42, 27, 28, 182, 1, 169, 29, 54, 4, 3, 54, 5, 21, 5, 42, 180, 1, 179]
abbrev dktX4_set_1 : List UInt8 := dkwX4_set_1 ++ dktX4_set_2
def dkwX4_set_0 : List UInt8 := [42, 3, 181, 0, 1, 42, 27, 182, 1, 122, 153, 0, 14, 28, 184, 1, 200, 153, 0, 7, 29, 156, 0, 5]
abbrev dktX4_set_0 : List UInt8 := dkwX4_set_0 ++ dktX4_set_1
theorem dksX4_set_0 : cX4_set.data.toList.drop 0 = dktX4_set_0 := by decide +kernel
theorem dksX4_set_1 : cX4_set.data.toList.drop 24 = dktX4_set_1 := dk_seg dksX4_set_0 24 rfl rfl
theorem dksX4_set_2 : cX4_set.data.toList.drop 48 = dktX4_set_2 := dk_seg dksX4_set_1 24 rfl rfl
theorem dksX4_set_3 : cX4_set.data.toList.drop 70 = dktX4_set_3 := dk_seg dksX4_set_2 22 rfl rfl
theorem dX4_set_0 : decode cX4_set 0 = .ok (.aload_n 0, 1) := dk_42 (dk_at dksX4_set_0 0 rfl rfl)
theorem dX4_set_1 : decode cX4_set 1 = .ok (.iconst 0, 1) := dk_3 (dk_at dksX4_set_0 1 rfl rfl)
theorem dX4_set_2 : decode cX4_set 2 = .ok (.putfield 1, 3) := dk_181 0 1 (dk_at dksX4_set_0 2 rfl rfl)
theorem dX4_set_5 : decode cX4_set 5 = .ok (.aload_n 0, 1) := dk_42 (dk_at dksX4_set_0 5 rfl rfl)
theorem dX4_set_6 : decode cX4_set 6 = .ok (.iload_n 1, 1) := dk_27 (dk_at dksX4_set_0 6 rfl rfl)
theorem dX4_set_7 : decode cX4_set 7 = .ok (.invokevirtual 378, 3) := dk_182 1 122 (dk_at dksX4_set_0 7 rfl rfl)
theorem dX4_set_10 : decode cX4_set 10 = .ok (.ifCond .eq 14, 3) := dk_153 0 14 (dk_at dksX4_set_0 10 rfl rfl)
theorem dX4_set_13 : decode cX4_set 13 = .ok (.iload_n 2, 1) := dk_28 (dk_at dksX4_set_0 13 rfl rfl)
theorem dX4_set_14 : decode cX4_set 14 = .ok (.invokestatic 456, 3) := dk_184 1 200 (dk_at dksX4_set_0 14 rfl rfl)
theorem dX4_set_17 : decode cX4_set 17 = .ok (.ifCond .eq 7, 3) := dk_153 0 7 (dk_at dksX4_set_0 17 rfl rfl)
theorem dX4_set_20 : decode cX4_set 20 = .ok (.iload_n 3, 1) := dk_29 (dk_at dksX4_set_0 20 rfl rfl)
theorem dX4_set_21 : decode cX4_set 21 = .ok (.ifCond .ge 5, 3) := dk_156 0 5 (dk_at dksX4_set_0 21 rfl rfl)
theorem dX4_set_24 : decode cX4_set 24 = .ok (.iconst (-1), 1) := dk_2 (dk_at dksX4_set_1 0 rfl rfl)
theorem dX4_set_25 : decode cX4_set 25 = .ok (.ireturn, 1) := dk_172 (dk_at dksX4_set_1 1 rfl rfl)
theorem dX4_set_26 : decode cX4_set 26 = .ok (.aload_n 0, 1) := dk_42 (dk_at dksX4_set_1 2 rfl rfl)
theorem dX4_set_27 : decode cX4_set 27 = .ok (.invokevirtual 450, 3) := dk_182 1 194 (dk_at dksX4_set_1 3 rfl rfl)
theorem dX4_set_30 : decode cX4_set 30 = .ok (.aload_n 0, 1) := dk_42 (dk_at dksX4_set_1 6 rfl rfl)
theorem dX4_set_31 : decode cX4_set 31 = .ok (.iload_n 1, 1) := dk_27 (dk_at dksX4_set_1 7 rfl rfl)
theorem dX4_set_32 : decode cX4_set 32 = .ok (.iload_n 2, 1) := dk_28 (dk_at dksX4_set_1 8 rfl rfl)
theorem dX4_set_33 : decode cX4_set 33 = .ok (.invokevirtual 425, 3) := dk_182 1 169 (dk_at dksX4_set_1 9 rfl rfl)
theorem dX4_set_36 : decode cX4_set 36 = .ok (.iload_n 3, 1) := dk_29 (dk_at dksX4_set_1 12 rfl rfl)
theorem dX4_set_37 : decode cX4_set 37 = .ok (.istore 4, 2) := dk_54 4 (dk_at dksX4_set_1 13 rfl rfl)
theorem dX4_set_39 : decode cX4_set 39 = .ok (.iconst 0, 1) := dk_3 (dk_at dksX4_set_1 15 rfl rfl)
theorem dX4_set_40 : decode cX4_set 40 = .ok (.istore 5, 2) := dk_54 5 (dk_at dksX4_set_1 16 rfl rfl)
theorem dX4_set_42 : decode cX4_set 42 = .ok (.iload 5, 2) := dk_21 5 (dk_at dksX4_set_1 18 rfl rfl)
theorem dX4_set_44 : decode cX4_set 44 = .ok (.aload_n 0, 1) := dk_42 (dk_at dksX4_set_1 20 rfl rfl)
theorem dX4_set_45 : decode cX4_set 45 = .ok (.getfield 435, 3) := dk_180 1 179 (dk_at dksX4_set_1 21 rfl rfl)
theorem dX4_set_48 : decode cX4_set 48 = .ok (.if_icmp .ge 38, 3) := dk_162 0 38 (dk_at dksX4_set_2 0 rfl rfl)
theorem dX4_set_51 : decode cX4_set 51 = .ok (.aload_n 0, 1) := dk_42 (dk_at dksX4_set_2 3 rfl rfl)
theorem dX4_set_52 : decode cX4_set 52 = .ok (.getfield 441, 3) := dk_180 1 185 (dk_at dksX4_set_2 4 rfl rfl)
theorem dX4_set_55 : decode cX4_set 55 = .ok (.iload 5, 2) := dk_21 5 (dk_at dksX4_set_2 7 rfl rfl)
theorem dX4_set_57 : decode cX4_set 57 = .ok (.ishr, 1) := dk_122 (dk_at dksX4_set_2 9 rfl rfl)
theorem dX4_set_58 : decode cX4_set 58 = .ok (.iconst 1, 1) := dk_4 (dk_at dksX4_set_2 10 rfl rfl)
theorem dX4_set_59 : decode cX4_set 59 = .ok (.iand, 1) := dk_126 (dk_at dksX4_set_2 11 rfl rfl)
theorem dX4_set_60 : decode cX4_set 60 = .ok (.iconst 1, 1) := dk_4 (dk_at dksX4_set_2 12 rfl rfl)
theorem dX4_set_61 : decode cX4_set 61 = .ok (.if_icmp .ne 19, 3) := dk_160 0 19 (dk_at dksX4_set_2 13 rfl rfl)
theorem dX4_set_64 : decode cX4_set 64 = .ok (.iload 4, 2) := dk_21 4 (dk_at dksX4_set_2 16 rfl rfl)
theorem dX4_set_66 : decode cX4_set 66 = .ok (.ifCond .ne 11, 3) := dk_154 0 11 (dk_at dksX4_set_2 18 rfl rfl)
theorem dX4_set_69 : decode cX4_set 69 = .ok (.aload_n 0, 1) := dk_42 (dk_at dksX4_set_2 21 rfl rfl)
theorem dX4_set_70 : decode cX4_set 70 = .ok (.getfield 179, 3) := dk_180 0 179 (dk_at dksX4_set_3 0 rfl rfl)
theorem dX4_set_73 : decode cX4_set 73 = .ok (.iload 5, 2) := dk_21 5 (dk_at dksX4_set_3 3 rfl rfl)
theorem dX4_set_75 : decode cX4_set 75 = .ok (.iaload, 1) := dk_46 (dk_at dksX4_set_3 5 rfl rfl)
theorem dX4_set_76 : decode cX4_set 76 = .ok (.ireturn, 1) := dk_172 (dk_at dksX4_set_3 6 rfl rfl)
theorem dX4_set_77 : decode cX4_set 77 = .ok (.iinc 4 (-1), 3) := dk_132 4 255 (dk_at dksX4_set_3 7 rfl rfl)
theorem dX4_set_80 : decode cX4_set 80 = .ok (.iinc 5 1, 3) := dk_132 5 1 (dk_at dksX4_set_3 10 rfl rfl)
theorem dX4_set_83 : decode cX4_set 83 = .ok (.goto (-41), 3) := dk_167 255 215 (dk_at dksX4_set_3 13 rfl rfl)
theorem dX4_set_86 : decode cX4_set 86 = .ok (.iconst (-1), 1) := dk_2 (dk_at dksX4_set_3 16 rfl rfl)
theorem dX4_set_87 : decode cX4_set 87 = .ok (.ireturn, 1) := dk_172 (dk_at dksX4_set_3 17 rfl rfl)
abbrev cX4_fair : ByteArray := prog_21_method_70_code
def yX4_fair : MethodName := ⟨RX4, "fair", "(I)I"⟩
def dkwX4_fair_1 : List UInt8 := [3, 172, 42, 182, 1, 206, 42, 27, 182, 1, 209, 172]
abbrev dktX4_fair_1 : List UInt8 := dkwX4_fair_1 ++ []
def dkwX4_fair_0 : List UInt8 := [42, 42, 27, 182, 1, 138, 153, 0, 7, 3, 167, 0, 4, 4, 181, 0, 1, 42, 180, 0, 1, 158, 0, 5]
abbrev dktX4_fair_0 : List UInt8 := dkwX4_fair_0 ++ dktX4_fair_1
theorem dksX4_fair_0 : cX4_fair.data.toList.drop 0 = dktX4_fair_0 := by decide +kernel
theorem dksX4_fair_1 : cX4_fair.data.toList.drop 24 = dktX4_fair_1 := dk_seg dksX4_fair_0 24 rfl rfl
theorem dX4_fair_0 : decode cX4_fair 0 = .ok (.aload_n 0, 1) := dk_42 (dk_at dksX4_fair_0 0 rfl rfl)
theorem dX4_fair_1 : decode cX4_fair 1 = .ok (.aload_n 0, 1) := dk_42 (dk_at dksX4_fair_0 1 rfl rfl)
theorem dX4_fair_2 : decode cX4_fair 2 = .ok (.iload_n 1, 1) := dk_27 (dk_at dksX4_fair_0 2 rfl rfl)
theorem dX4_fair_3 : decode cX4_fair 3 = .ok (.invokevirtual 394, 3) := dk_182 1 138 (dk_at dksX4_fair_0 3 rfl rfl)
theorem dX4_fair_6 : decode cX4_fair 6 = .ok (.ifCond .eq 7, 3) := dk_153 0 7 (dk_at dksX4_fair_0 6 rfl rfl)
theorem dX4_fair_9 : decode cX4_fair 9 = .ok (.iconst 0, 1) := dk_3 (dk_at dksX4_fair_0 9 rfl rfl)
theorem dX4_fair_10 : decode cX4_fair 10 = .ok (.goto 4, 3) := dk_167 0 4 (dk_at dksX4_fair_0 10 rfl rfl)
theorem dX4_fair_13 : decode cX4_fair 13 = .ok (.iconst 1, 1) := dk_4 (dk_at dksX4_fair_0 13 rfl rfl)
theorem dX4_fair_14 : decode cX4_fair 14 = .ok (.putfield 1, 3) := dk_181 0 1 (dk_at dksX4_fair_0 14 rfl rfl)
theorem dX4_fair_17 : decode cX4_fair 17 = .ok (.aload_n 0, 1) := dk_42 (dk_at dksX4_fair_0 17 rfl rfl)
theorem dX4_fair_18 : decode cX4_fair 18 = .ok (.getfield 1, 3) := dk_180 0 1 (dk_at dksX4_fair_0 18 rfl rfl)
theorem dX4_fair_21 : decode cX4_fair 21 = .ok (.ifCond .le 5, 3) := dk_158 0 5 (dk_at dksX4_fair_0 21 rfl rfl)
theorem dX4_fair_24 : decode cX4_fair 24 = .ok (.iconst 0, 1) := dk_3 (dk_at dksX4_fair_1 0 rfl rfl)
theorem dX4_fair_25 : decode cX4_fair 25 = .ok (.ireturn, 1) := dk_172 (dk_at dksX4_fair_1 1 rfl rfl)
theorem dX4_fair_26 : decode cX4_fair 26 = .ok (.aload_n 0, 1) := dk_42 (dk_at dksX4_fair_1 2 rfl rfl)
theorem dX4_fair_27 : decode cX4_fair 27 = .ok (.invokevirtual 462, 3) := dk_182 1 206 (dk_at dksX4_fair_1 3 rfl rfl)
theorem dX4_fair_30 : decode cX4_fair 30 = .ok (.aload_n 0, 1) := dk_42 (dk_at dksX4_fair_1 6 rfl rfl)
theorem dX4_fair_31 : decode cX4_fair 31 = .ok (.iload_n 1, 1) := dk_27 (dk_at dksX4_fair_1 7 rfl rfl)
theorem dX4_fair_32 : decode cX4_fair 32 = .ok (.invokevirtual 465, 3) := dk_182 1 209 (dk_at dksX4_fair_1 8 rfl rfl)
theorem dX4_fair_35 : decode cX4_fair 35 = .ok (.ireturn, 1) := dk_172 (dk_at dksX4_fair_1 11 rfl rfl)
abbrev cX4_findLeans : ByteArray := prog_21_method_68_code
def yX4_findLeans : MethodName := ⟨RX4, "findLeans", "()V"⟩
def dkwX4_findLeans_5 : List UInt8 := [167, 0, 11, 28, 42, 180, 0, 188, 27, 46, 108, 79, 132, 1, 1, 167, 255, 129, 177]
abbrev dktX4_findLeans_5 : List UInt8 := dkwX4_findLeans_5 ++ []
def dkwX4_findLeans_4 : List UInt8 := [132, 3, 1, 167, 255, 180, 42, 180, 0, 185, 27, 42, 180, 0, 188, 27, 46, 5, 162, 0, 7, 3]
abbrev dktX4_findLeans_4 : List UInt8 := dkwX4_findLeans_4 ++ dktX4_findLeans_5
def dkwX4_findLeans_3 : List UInt8 := [79, 28, 42, 180, 0, 170, 29, 46, 42, 180, 0, 170, 21, 4, 46, 100, 96, 61, 132, 4, 1, 167, 255, 197]
abbrev dktX4_findLeans_3 : List UInt8 := dkwX4_findLeans_3 ++ dktX4_findLeans_4
def dkwX4_findLeans_2 : List UInt8 := [46, 27, 160, 0, 40, 42, 29, 21, 4, 182, 1, 203, 153, 0, 30, 42, 180, 0, 188, 27, 92, 46, 4, 96]
abbrev dktX4_findLeans_2 : List UInt8 := dkwX4_findLeans_2 ++ dktX4_findLeans_3
def dkwX4_findLeans_1 : List UInt8 := [42, 180, 1, 116, 162, 0, 74, 3, 54, 4, 21, 4, 42, 180, 1, 116, 162, 0, 56, 42, 180, 0, 137, 29]
abbrev dktX4_findLeans_1 : List UInt8 := dkwX4_findLeans_1 ++ dktX4_findLeans_2
def dkwX4_findLeans_0 : List UInt8 := [42, 182, 1, 194, 3, 60, 27, 16, 8, 162, 0, 127, 3, 61, 42, 180, 0, 188, 27, 3, 79, 3, 62, 29]
abbrev dktX4_findLeans_0 : List UInt8 := dkwX4_findLeans_0 ++ dktX4_findLeans_1
theorem dksX4_findLeans_0 : cX4_findLeans.data.toList.drop 0 = dktX4_findLeans_0 := by decide +kernel
theorem dksX4_findLeans_1 : cX4_findLeans.data.toList.drop 24 = dktX4_findLeans_1 := dk_seg dksX4_findLeans_0 24 rfl rfl
theorem dksX4_findLeans_2 : cX4_findLeans.data.toList.drop 48 = dktX4_findLeans_2 := dk_seg dksX4_findLeans_1 24 rfl rfl
theorem dksX4_findLeans_3 : cX4_findLeans.data.toList.drop 72 = dktX4_findLeans_3 := dk_seg dksX4_findLeans_2 24 rfl rfl
theorem dksX4_findLeans_4 : cX4_findLeans.data.toList.drop 96 = dktX4_findLeans_4 := dk_seg dksX4_findLeans_3 24 rfl rfl
theorem dksX4_findLeans_5 : cX4_findLeans.data.toList.drop 118 = dktX4_findLeans_5 := dk_seg dksX4_findLeans_4 22 rfl rfl
theorem dX4_findLeans_0 : decode cX4_findLeans 0 = .ok (.aload_n 0, 1) := dk_42 (dk_at dksX4_findLeans_0 0 rfl rfl)
theorem dX4_findLeans_1 : decode cX4_findLeans 1 = .ok (.invokevirtual 450, 3) := dk_182 1 194 (dk_at dksX4_findLeans_0 1 rfl rfl)
theorem dX4_findLeans_4 : decode cX4_findLeans 4 = .ok (.iconst 0, 1) := dk_3 (dk_at dksX4_findLeans_0 4 rfl rfl)
theorem dX4_findLeans_5 : decode cX4_findLeans 5 = .ok (.istore_n 1, 1) := dk_60 (dk_at dksX4_findLeans_0 5 rfl rfl)
theorem dX4_findLeans_6 : decode cX4_findLeans 6 = .ok (.iload_n 1, 1) := dk_27 (dk_at dksX4_findLeans_0 6 rfl rfl)
theorem dX4_findLeans_7 : decode cX4_findLeans 7 = .ok (.bipush 8, 2) := dk_16 8 (dk_at dksX4_findLeans_0 7 rfl rfl)
theorem dX4_findLeans_9 : decode cX4_findLeans 9 = .ok (.if_icmp .ge 127, 3) := dk_162 0 127 (dk_at dksX4_findLeans_0 9 rfl rfl)
theorem dX4_findLeans_12 : decode cX4_findLeans 12 = .ok (.iconst 0, 1) := dk_3 (dk_at dksX4_findLeans_0 12 rfl rfl)
theorem dX4_findLeans_13 : decode cX4_findLeans 13 = .ok (.istore_n 2, 1) := dk_61 (dk_at dksX4_findLeans_0 13 rfl rfl)
theorem dX4_findLeans_14 : decode cX4_findLeans 14 = .ok (.aload_n 0, 1) := dk_42 (dk_at dksX4_findLeans_0 14 rfl rfl)
theorem dX4_findLeans_15 : decode cX4_findLeans 15 = .ok (.getfield 188, 3) := dk_180 0 188 (dk_at dksX4_findLeans_0 15 rfl rfl)
theorem dX4_findLeans_18 : decode cX4_findLeans 18 = .ok (.iload_n 1, 1) := dk_27 (dk_at dksX4_findLeans_0 18 rfl rfl)
theorem dX4_findLeans_19 : decode cX4_findLeans 19 = .ok (.iconst 0, 1) := dk_3 (dk_at dksX4_findLeans_0 19 rfl rfl)
theorem dX4_findLeans_20 : decode cX4_findLeans 20 = .ok (.iastore, 1) := dk_79 (dk_at dksX4_findLeans_0 20 rfl rfl)
theorem dX4_findLeans_21 : decode cX4_findLeans 21 = .ok (.iconst 0, 1) := dk_3 (dk_at dksX4_findLeans_0 21 rfl rfl)
theorem dX4_findLeans_22 : decode cX4_findLeans 22 = .ok (.istore_n 3, 1) := dk_62 (dk_at dksX4_findLeans_0 22 rfl rfl)
theorem dX4_findLeans_23 : decode cX4_findLeans 23 = .ok (.iload_n 3, 1) := dk_29 (dk_at dksX4_findLeans_0 23 rfl rfl)
theorem dX4_findLeans_24 : decode cX4_findLeans 24 = .ok (.aload_n 0, 1) := dk_42 (dk_at dksX4_findLeans_1 0 rfl rfl)
theorem dX4_findLeans_25 : decode cX4_findLeans 25 = .ok (.getfield 372, 3) := dk_180 1 116 (dk_at dksX4_findLeans_1 1 rfl rfl)
theorem dX4_findLeans_28 : decode cX4_findLeans 28 = .ok (.if_icmp .ge 74, 3) := dk_162 0 74 (dk_at dksX4_findLeans_1 4 rfl rfl)
theorem dX4_findLeans_31 : decode cX4_findLeans 31 = .ok (.iconst 0, 1) := dk_3 (dk_at dksX4_findLeans_1 7 rfl rfl)
theorem dX4_findLeans_32 : decode cX4_findLeans 32 = .ok (.istore 4, 2) := dk_54 4 (dk_at dksX4_findLeans_1 8 rfl rfl)
theorem dX4_findLeans_34 : decode cX4_findLeans 34 = .ok (.iload 4, 2) := dk_21 4 (dk_at dksX4_findLeans_1 10 rfl rfl)
theorem dX4_findLeans_36 : decode cX4_findLeans 36 = .ok (.aload_n 0, 1) := dk_42 (dk_at dksX4_findLeans_1 12 rfl rfl)
theorem dX4_findLeans_37 : decode cX4_findLeans 37 = .ok (.getfield 372, 3) := dk_180 1 116 (dk_at dksX4_findLeans_1 13 rfl rfl)
theorem dX4_findLeans_40 : decode cX4_findLeans 40 = .ok (.if_icmp .ge 56, 3) := dk_162 0 56 (dk_at dksX4_findLeans_1 16 rfl rfl)
theorem dX4_findLeans_43 : decode cX4_findLeans 43 = .ok (.aload_n 0, 1) := dk_42 (dk_at dksX4_findLeans_1 19 rfl rfl)
theorem dX4_findLeans_44 : decode cX4_findLeans 44 = .ok (.getfield 137, 3) := dk_180 0 137 (dk_at dksX4_findLeans_1 20 rfl rfl)
theorem dX4_findLeans_47 : decode cX4_findLeans 47 = .ok (.iload_n 3, 1) := dk_29 (dk_at dksX4_findLeans_1 23 rfl rfl)
theorem dX4_findLeans_48 : decode cX4_findLeans 48 = .ok (.iaload, 1) := dk_46 (dk_at dksX4_findLeans_2 0 rfl rfl)
theorem dX4_findLeans_49 : decode cX4_findLeans 49 = .ok (.iload_n 1, 1) := dk_27 (dk_at dksX4_findLeans_2 1 rfl rfl)
theorem dX4_findLeans_50 : decode cX4_findLeans 50 = .ok (.if_icmp .ne 40, 3) := dk_160 0 40 (dk_at dksX4_findLeans_2 2 rfl rfl)
theorem dX4_findLeans_53 : decode cX4_findLeans 53 = .ok (.aload_n 0, 1) := dk_42 (dk_at dksX4_findLeans_2 5 rfl rfl)
theorem dX4_findLeans_54 : decode cX4_findLeans 54 = .ok (.iload_n 3, 1) := dk_29 (dk_at dksX4_findLeans_2 6 rfl rfl)
theorem dX4_findLeans_55 : decode cX4_findLeans 55 = .ok (.iload 4, 2) := dk_21 4 (dk_at dksX4_findLeans_2 7 rfl rfl)
theorem dX4_findLeans_57 : decode cX4_findLeans 57 = .ok (.invokevirtual 459, 3) := dk_182 1 203 (dk_at dksX4_findLeans_2 9 rfl rfl)
theorem dX4_findLeans_60 : decode cX4_findLeans 60 = .ok (.ifCond .eq 30, 3) := dk_153 0 30 (dk_at dksX4_findLeans_2 12 rfl rfl)
theorem dX4_findLeans_63 : decode cX4_findLeans 63 = .ok (.aload_n 0, 1) := dk_42 (dk_at dksX4_findLeans_2 15 rfl rfl)
theorem dX4_findLeans_64 : decode cX4_findLeans 64 = .ok (.getfield 188, 3) := dk_180 0 188 (dk_at dksX4_findLeans_2 16 rfl rfl)
theorem dX4_findLeans_67 : decode cX4_findLeans 67 = .ok (.iload_n 1, 1) := dk_27 (dk_at dksX4_findLeans_2 19 rfl rfl)
theorem dX4_findLeans_68 : decode cX4_findLeans 68 = .ok (.dup2, 1) := dk_92 (dk_at dksX4_findLeans_2 20 rfl rfl)
theorem dX4_findLeans_69 : decode cX4_findLeans 69 = .ok (.iaload, 1) := dk_46 (dk_at dksX4_findLeans_2 21 rfl rfl)
theorem dX4_findLeans_70 : decode cX4_findLeans 70 = .ok (.iconst 1, 1) := dk_4 (dk_at dksX4_findLeans_2 22 rfl rfl)
theorem dX4_findLeans_71 : decode cX4_findLeans 71 = .ok (.iadd, 1) := dk_96 (dk_at dksX4_findLeans_2 23 rfl rfl)
theorem dX4_findLeans_72 : decode cX4_findLeans 72 = .ok (.iastore, 1) := dk_79 (dk_at dksX4_findLeans_3 0 rfl rfl)
theorem dX4_findLeans_73 : decode cX4_findLeans 73 = .ok (.iload_n 2, 1) := dk_28 (dk_at dksX4_findLeans_3 1 rfl rfl)
theorem dX4_findLeans_74 : decode cX4_findLeans 74 = .ok (.aload_n 0, 1) := dk_42 (dk_at dksX4_findLeans_3 2 rfl rfl)
theorem dX4_findLeans_75 : decode cX4_findLeans 75 = .ok (.getfield 170, 3) := dk_180 0 170 (dk_at dksX4_findLeans_3 3 rfl rfl)
theorem dX4_findLeans_78 : decode cX4_findLeans 78 = .ok (.iload_n 3, 1) := dk_29 (dk_at dksX4_findLeans_3 6 rfl rfl)
theorem dX4_findLeans_79 : decode cX4_findLeans 79 = .ok (.iaload, 1) := dk_46 (dk_at dksX4_findLeans_3 7 rfl rfl)
theorem dX4_findLeans_80 : decode cX4_findLeans 80 = .ok (.aload_n 0, 1) := dk_42 (dk_at dksX4_findLeans_3 8 rfl rfl)
theorem dX4_findLeans_81 : decode cX4_findLeans 81 = .ok (.getfield 170, 3) := dk_180 0 170 (dk_at dksX4_findLeans_3 9 rfl rfl)
theorem dX4_findLeans_84 : decode cX4_findLeans 84 = .ok (.iload 4, 2) := dk_21 4 (dk_at dksX4_findLeans_3 12 rfl rfl)
theorem dX4_findLeans_86 : decode cX4_findLeans 86 = .ok (.iaload, 1) := dk_46 (dk_at dksX4_findLeans_3 14 rfl rfl)
theorem dX4_findLeans_87 : decode cX4_findLeans 87 = .ok (.isub, 1) := dk_100 (dk_at dksX4_findLeans_3 15 rfl rfl)
theorem dX4_findLeans_88 : decode cX4_findLeans 88 = .ok (.iadd, 1) := dk_96 (dk_at dksX4_findLeans_3 16 rfl rfl)
theorem dX4_findLeans_89 : decode cX4_findLeans 89 = .ok (.istore_n 2, 1) := dk_61 (dk_at dksX4_findLeans_3 17 rfl rfl)
theorem dX4_findLeans_90 : decode cX4_findLeans 90 = .ok (.iinc 4 1, 3) := dk_132 4 1 (dk_at dksX4_findLeans_3 18 rfl rfl)
theorem dX4_findLeans_93 : decode cX4_findLeans 93 = .ok (.goto (-59), 3) := dk_167 255 197 (dk_at dksX4_findLeans_3 21 rfl rfl)
theorem dX4_findLeans_96 : decode cX4_findLeans 96 = .ok (.iinc 3 1, 3) := dk_132 3 1 (dk_at dksX4_findLeans_4 0 rfl rfl)
theorem dX4_findLeans_99 : decode cX4_findLeans 99 = .ok (.goto (-76), 3) := dk_167 255 180 (dk_at dksX4_findLeans_4 3 rfl rfl)
theorem dX4_findLeans_102 : decode cX4_findLeans 102 = .ok (.aload_n 0, 1) := dk_42 (dk_at dksX4_findLeans_4 6 rfl rfl)
theorem dX4_findLeans_103 : decode cX4_findLeans 103 = .ok (.getfield 185, 3) := dk_180 0 185 (dk_at dksX4_findLeans_4 7 rfl rfl)
theorem dX4_findLeans_106 : decode cX4_findLeans 106 = .ok (.iload_n 1, 1) := dk_27 (dk_at dksX4_findLeans_4 10 rfl rfl)
theorem dX4_findLeans_107 : decode cX4_findLeans 107 = .ok (.aload_n 0, 1) := dk_42 (dk_at dksX4_findLeans_4 11 rfl rfl)
theorem dX4_findLeans_108 : decode cX4_findLeans 108 = .ok (.getfield 188, 3) := dk_180 0 188 (dk_at dksX4_findLeans_4 12 rfl rfl)
theorem dX4_findLeans_111 : decode cX4_findLeans 111 = .ok (.iload_n 1, 1) := dk_27 (dk_at dksX4_findLeans_4 15 rfl rfl)
theorem dX4_findLeans_112 : decode cX4_findLeans 112 = .ok (.iaload, 1) := dk_46 (dk_at dksX4_findLeans_4 16 rfl rfl)
theorem dX4_findLeans_113 : decode cX4_findLeans 113 = .ok (.iconst 2, 1) := dk_5 (dk_at dksX4_findLeans_4 17 rfl rfl)
theorem dX4_findLeans_114 : decode cX4_findLeans 114 = .ok (.if_icmp .ge 7, 3) := dk_162 0 7 (dk_at dksX4_findLeans_4 18 rfl rfl)
theorem dX4_findLeans_117 : decode cX4_findLeans 117 = .ok (.iconst 0, 1) := dk_3 (dk_at dksX4_findLeans_4 21 rfl rfl)
theorem dX4_findLeans_118 : decode cX4_findLeans 118 = .ok (.goto 11, 3) := dk_167 0 11 (dk_at dksX4_findLeans_5 0 rfl rfl)
theorem dX4_findLeans_121 : decode cX4_findLeans 121 = .ok (.iload_n 2, 1) := dk_28 (dk_at dksX4_findLeans_5 3 rfl rfl)
theorem dX4_findLeans_122 : decode cX4_findLeans 122 = .ok (.aload_n 0, 1) := dk_42 (dk_at dksX4_findLeans_5 4 rfl rfl)
theorem dX4_findLeans_123 : decode cX4_findLeans 123 = .ok (.getfield 188, 3) := dk_180 0 188 (dk_at dksX4_findLeans_5 5 rfl rfl)
theorem dX4_findLeans_126 : decode cX4_findLeans 126 = .ok (.iload_n 1, 1) := dk_27 (dk_at dksX4_findLeans_5 8 rfl rfl)
theorem dX4_findLeans_127 : decode cX4_findLeans 127 = .ok (.iaload, 1) := dk_46 (dk_at dksX4_findLeans_5 9 rfl rfl)
theorem dX4_findLeans_128 : decode cX4_findLeans 128 = .ok (.idiv, 1) := dk_108 (dk_at dksX4_findLeans_5 10 rfl rfl)
theorem dX4_findLeans_129 : decode cX4_findLeans 129 = .ok (.iastore, 1) := dk_79 (dk_at dksX4_findLeans_5 11 rfl rfl)
theorem dX4_findLeans_130 : decode cX4_findLeans 130 = .ok (.iinc 1 1, 3) := dk_132 1 1 (dk_at dksX4_findLeans_5 12 rfl rfl)
theorem dX4_findLeans_133 : decode cX4_findLeans 133 = .ok (.goto (-127), 3) := dk_167 255 129 (dk_at dksX4_findLeans_5 15 rfl rfl)
theorem dX4_findLeans_136 : decode cX4_findLeans 136 = .ok (.return_, 1) := dk_177 (dk_at dksX4_findLeans_5 18 rfl rfl)
abbrev cX4_isMeeting : ByteArray := prog_21_method_67_code
def yX4_isMeeting : MethodName := ⟨RX4, "isMeeting", "(II)Z"⟩
def dkwX4_isMeeting_3 : List UInt8 := [167, 0, 4, 3, 172]
abbrev dktX4_isMeeting_3 : List UInt8 := dkwX4_isMeeting_3 ++ []
def dkwX4_isMeeting_2 : List UInt8 := [16, 7, 108, 160, 0, 22, 42, 180, 0, 137, 27, 46, 42, 180, 0, 137, 28, 46, 159, 0, 7, 4]
abbrev dktX4_isMeeting_2 : List UInt8 := dkwX4_isMeeting_2 ++ dktX4_isMeeting_3
def dkwX4_isMeeting_1 : List UInt8 := [180, 0, 134, 28, 46, 160, 0, 43, 42, 180, 0, 140, 27, 46, 16, 7, 108, 42, 180, 0, 140, 28, 46]
abbrev dktX4_isMeeting_1 : List UInt8 := dkwX4_isMeeting_1 ++ dktX4_isMeeting_2
def dkwX4_isMeeting_0 : List UInt8 := [42, 27, 182, 1, 197, 153, 0, 66, 42, 28, 182, 1, 197, 153, 0, 58, 42, 180, 0, 134, 27, 46, 42]
abbrev dktX4_isMeeting_0 : List UInt8 := dkwX4_isMeeting_0 ++ dktX4_isMeeting_1
theorem dksX4_isMeeting_0 : cX4_isMeeting.data.toList.drop 0 = dktX4_isMeeting_0 := by decide +kernel
theorem dksX4_isMeeting_1 : cX4_isMeeting.data.toList.drop 23 = dktX4_isMeeting_1 := dk_seg dksX4_isMeeting_0 23 rfl rfl
theorem dksX4_isMeeting_2 : cX4_isMeeting.data.toList.drop 46 = dktX4_isMeeting_2 := dk_seg dksX4_isMeeting_1 23 rfl rfl
theorem dksX4_isMeeting_3 : cX4_isMeeting.data.toList.drop 68 = dktX4_isMeeting_3 := dk_seg dksX4_isMeeting_2 22 rfl rfl
theorem dX4_isMeeting_0 : decode cX4_isMeeting 0 = .ok (.aload_n 0, 1) := dk_42 (dk_at dksX4_isMeeting_0 0 rfl rfl)
theorem dX4_isMeeting_1 : decode cX4_isMeeting 1 = .ok (.iload_n 1, 1) := dk_27 (dk_at dksX4_isMeeting_0 1 rfl rfl)
theorem dX4_isMeeting_2 : decode cX4_isMeeting 2 = .ok (.invokevirtual 453, 3) := dk_182 1 197 (dk_at dksX4_isMeeting_0 2 rfl rfl)
theorem dX4_isMeeting_5 : decode cX4_isMeeting 5 = .ok (.ifCond .eq 66, 3) := dk_153 0 66 (dk_at dksX4_isMeeting_0 5 rfl rfl)
theorem dX4_isMeeting_8 : decode cX4_isMeeting 8 = .ok (.aload_n 0, 1) := dk_42 (dk_at dksX4_isMeeting_0 8 rfl rfl)
theorem dX4_isMeeting_9 : decode cX4_isMeeting 9 = .ok (.iload_n 2, 1) := dk_28 (dk_at dksX4_isMeeting_0 9 rfl rfl)
theorem dX4_isMeeting_10 : decode cX4_isMeeting 10 = .ok (.invokevirtual 453, 3) := dk_182 1 197 (dk_at dksX4_isMeeting_0 10 rfl rfl)
theorem dX4_isMeeting_13 : decode cX4_isMeeting 13 = .ok (.ifCond .eq 58, 3) := dk_153 0 58 (dk_at dksX4_isMeeting_0 13 rfl rfl)
theorem dX4_isMeeting_16 : decode cX4_isMeeting 16 = .ok (.aload_n 0, 1) := dk_42 (dk_at dksX4_isMeeting_0 16 rfl rfl)
theorem dX4_isMeeting_17 : decode cX4_isMeeting 17 = .ok (.getfield 134, 3) := dk_180 0 134 (dk_at dksX4_isMeeting_0 17 rfl rfl)
theorem dX4_isMeeting_20 : decode cX4_isMeeting 20 = .ok (.iload_n 1, 1) := dk_27 (dk_at dksX4_isMeeting_0 20 rfl rfl)
theorem dX4_isMeeting_21 : decode cX4_isMeeting 21 = .ok (.iaload, 1) := dk_46 (dk_at dksX4_isMeeting_0 21 rfl rfl)
theorem dX4_isMeeting_22 : decode cX4_isMeeting 22 = .ok (.aload_n 0, 1) := dk_42 (dk_at dksX4_isMeeting_0 22 rfl rfl)
theorem dX4_isMeeting_23 : decode cX4_isMeeting 23 = .ok (.getfield 134, 3) := dk_180 0 134 (dk_at dksX4_isMeeting_1 0 rfl rfl)
theorem dX4_isMeeting_26 : decode cX4_isMeeting 26 = .ok (.iload_n 2, 1) := dk_28 (dk_at dksX4_isMeeting_1 3 rfl rfl)
theorem dX4_isMeeting_27 : decode cX4_isMeeting 27 = .ok (.iaload, 1) := dk_46 (dk_at dksX4_isMeeting_1 4 rfl rfl)
theorem dX4_isMeeting_28 : decode cX4_isMeeting 28 = .ok (.if_icmp .ne 43, 3) := dk_160 0 43 (dk_at dksX4_isMeeting_1 5 rfl rfl)
theorem dX4_isMeeting_31 : decode cX4_isMeeting 31 = .ok (.aload_n 0, 1) := dk_42 (dk_at dksX4_isMeeting_1 8 rfl rfl)
theorem dX4_isMeeting_32 : decode cX4_isMeeting 32 = .ok (.getfield 140, 3) := dk_180 0 140 (dk_at dksX4_isMeeting_1 9 rfl rfl)
theorem dX4_isMeeting_35 : decode cX4_isMeeting 35 = .ok (.iload_n 1, 1) := dk_27 (dk_at dksX4_isMeeting_1 12 rfl rfl)
theorem dX4_isMeeting_36 : decode cX4_isMeeting 36 = .ok (.iaload, 1) := dk_46 (dk_at dksX4_isMeeting_1 13 rfl rfl)
theorem dX4_isMeeting_37 : decode cX4_isMeeting 37 = .ok (.bipush 7, 2) := dk_16 7 (dk_at dksX4_isMeeting_1 14 rfl rfl)
theorem dX4_isMeeting_39 : decode cX4_isMeeting 39 = .ok (.idiv, 1) := dk_108 (dk_at dksX4_isMeeting_1 16 rfl rfl)
theorem dX4_isMeeting_40 : decode cX4_isMeeting 40 = .ok (.aload_n 0, 1) := dk_42 (dk_at dksX4_isMeeting_1 17 rfl rfl)
theorem dX4_isMeeting_41 : decode cX4_isMeeting 41 = .ok (.getfield 140, 3) := dk_180 0 140 (dk_at dksX4_isMeeting_1 18 rfl rfl)
theorem dX4_isMeeting_44 : decode cX4_isMeeting 44 = .ok (.iload_n 2, 1) := dk_28 (dk_at dksX4_isMeeting_1 21 rfl rfl)
theorem dX4_isMeeting_45 : decode cX4_isMeeting 45 = .ok (.iaload, 1) := dk_46 (dk_at dksX4_isMeeting_1 22 rfl rfl)
theorem dX4_isMeeting_46 : decode cX4_isMeeting 46 = .ok (.bipush 7, 2) := dk_16 7 (dk_at dksX4_isMeeting_2 0 rfl rfl)
theorem dX4_isMeeting_48 : decode cX4_isMeeting 48 = .ok (.idiv, 1) := dk_108 (dk_at dksX4_isMeeting_2 2 rfl rfl)
theorem dX4_isMeeting_49 : decode cX4_isMeeting 49 = .ok (.if_icmp .ne 22, 3) := dk_160 0 22 (dk_at dksX4_isMeeting_2 3 rfl rfl)
theorem dX4_isMeeting_52 : decode cX4_isMeeting 52 = .ok (.aload_n 0, 1) := dk_42 (dk_at dksX4_isMeeting_2 6 rfl rfl)
theorem dX4_isMeeting_53 : decode cX4_isMeeting 53 = .ok (.getfield 137, 3) := dk_180 0 137 (dk_at dksX4_isMeeting_2 7 rfl rfl)
theorem dX4_isMeeting_56 : decode cX4_isMeeting 56 = .ok (.iload_n 1, 1) := dk_27 (dk_at dksX4_isMeeting_2 10 rfl rfl)
theorem dX4_isMeeting_57 : decode cX4_isMeeting 57 = .ok (.iaload, 1) := dk_46 (dk_at dksX4_isMeeting_2 11 rfl rfl)
theorem dX4_isMeeting_58 : decode cX4_isMeeting 58 = .ok (.aload_n 0, 1) := dk_42 (dk_at dksX4_isMeeting_2 12 rfl rfl)
theorem dX4_isMeeting_59 : decode cX4_isMeeting 59 = .ok (.getfield 137, 3) := dk_180 0 137 (dk_at dksX4_isMeeting_2 13 rfl rfl)
theorem dX4_isMeeting_62 : decode cX4_isMeeting 62 = .ok (.iload_n 2, 1) := dk_28 (dk_at dksX4_isMeeting_2 16 rfl rfl)
theorem dX4_isMeeting_63 : decode cX4_isMeeting 63 = .ok (.iaload, 1) := dk_46 (dk_at dksX4_isMeeting_2 17 rfl rfl)
theorem dX4_isMeeting_64 : decode cX4_isMeeting 64 = .ok (.if_icmp .eq 7, 3) := dk_159 0 7 (dk_at dksX4_isMeeting_2 18 rfl rfl)
theorem dX4_isMeeting_67 : decode cX4_isMeeting 67 = .ok (.iconst 1, 1) := dk_4 (dk_at dksX4_isMeeting_2 21 rfl rfl)
theorem dX4_isMeeting_68 : decode cX4_isMeeting 68 = .ok (.goto 4, 3) := dk_167 0 4 (dk_at dksX4_isMeeting_3 0 rfl rfl)
theorem dX4_isMeeting_71 : decode cX4_isMeeting 71 = .ok (.iconst 0, 1) := dk_3 (dk_at dksX4_isMeeting_3 3 rfl rfl)
theorem dX4_isMeeting_72 : decode cX4_isMeeting 72 = .ok (.ireturn, 1) := dk_172 (dk_at dksX4_isMeeting_3 4 rfl rfl)
abbrev cX4_fairOf : ByteArray := prog_21_method_69_code
def yX4_fairOf : MethodName := ⟨RX4, "fairOf", "(I)I"⟩
def dkwX4_fairOf_0 : List UInt8 := [42, 180, 0, 170, 27, 46, 42, 180, 0, 185, 42, 180, 0, 137, 27, 46, 46, 100, 172]
abbrev dktX4_fairOf_0 : List UInt8 := dkwX4_fairOf_0 ++ []
theorem dksX4_fairOf_0 : cX4_fairOf.data.toList.drop 0 = dktX4_fairOf_0 := by decide +kernel
theorem dX4_fairOf_0 : decode cX4_fairOf 0 = .ok (.aload_n 0, 1) := dk_42 (dk_at dksX4_fairOf_0 0 rfl rfl)
theorem dX4_fairOf_1 : decode cX4_fairOf 1 = .ok (.getfield 170, 3) := dk_180 0 170 (dk_at dksX4_fairOf_0 1 rfl rfl)
theorem dX4_fairOf_4 : decode cX4_fairOf 4 = .ok (.iload_n 1, 1) := dk_27 (dk_at dksX4_fairOf_0 4 rfl rfl)
theorem dX4_fairOf_5 : decode cX4_fairOf 5 = .ok (.iaload, 1) := dk_46 (dk_at dksX4_fairOf_0 5 rfl rfl)
theorem dX4_fairOf_6 : decode cX4_fairOf 6 = .ok (.aload_n 0, 1) := dk_42 (dk_at dksX4_fairOf_0 6 rfl rfl)
theorem dX4_fairOf_7 : decode cX4_fairOf 7 = .ok (.getfield 185, 3) := dk_180 0 185 (dk_at dksX4_fairOf_0 7 rfl rfl)
theorem dX4_fairOf_10 : decode cX4_fairOf 10 = .ok (.aload_n 0, 1) := dk_42 (dk_at dksX4_fairOf_0 10 rfl rfl)
theorem dX4_fairOf_11 : decode cX4_fairOf 11 = .ok (.getfield 137, 3) := dk_180 0 137 (dk_at dksX4_fairOf_0 11 rfl rfl)
theorem dX4_fairOf_14 : decode cX4_fairOf 14 = .ok (.iload_n 1, 1) := dk_27 (dk_at dksX4_fairOf_0 14 rfl rfl)
theorem dX4_fairOf_15 : decode cX4_fairOf 15 = .ok (.iaload, 1) := dk_46 (dk_at dksX4_fairOf_0 15 rfl rfl)
theorem dX4_fairOf_16 : decode cX4_fairOf 16 = .ok (.iaload, 1) := dk_46 (dk_at dksX4_fairOf_0 16 rfl rfl)
theorem dX4_fairOf_17 : decode cX4_fairOf 17 = .ok (.isub, 1) := dk_100 (dk_at dksX4_fairOf_0 17 rfl rfl)
theorem dX4_fairOf_18 : decode cX4_fairOf 18 = .ok (.ireturn, 1) := dk_172 (dk_at dksX4_fairOf_0 18 rfl rfl)
abbrev cX4_lean : ByteArray := prog_21_method_71_code
def yX4_lean : MethodName := ⟨RX4, "lean", "(I)I"⟩
def dkwX4_lean_2 : List UInt8 := [167, 0, 9, 42, 180, 0, 185, 27, 46, 172]
abbrev dktX4_lean_2 : List UInt8 := dkwX4_lean_2 ++ []
def dkwX4_lean_1 : List UInt8 := [27, 46, 5, 162, 0, 7, 4, 167, 0, 4, 3, 181, 0, 1, 42, 180, 0, 1, 158, 0, 7, 3]
abbrev dktX4_lean_1 : List UInt8 := dkwX4_lean_1 ++ dktX4_lean_2
def dkwX4_lean_0 : List UInt8 := [42, 4, 181, 0, 1, 42, 27, 182, 1, 122, 154, 0, 5, 3, 172, 42, 182, 1, 206, 42, 42, 180, 0, 188]
abbrev dktX4_lean_0 : List UInt8 := dkwX4_lean_0 ++ dktX4_lean_1
theorem dksX4_lean_0 : cX4_lean.data.toList.drop 0 = dktX4_lean_0 := by decide +kernel
theorem dksX4_lean_1 : cX4_lean.data.toList.drop 24 = dktX4_lean_1 := dk_seg dksX4_lean_0 24 rfl rfl
theorem dksX4_lean_2 : cX4_lean.data.toList.drop 46 = dktX4_lean_2 := dk_seg dksX4_lean_1 22 rfl rfl
theorem dX4_lean_0 : decode cX4_lean 0 = .ok (.aload_n 0, 1) := dk_42 (dk_at dksX4_lean_0 0 rfl rfl)
theorem dX4_lean_1 : decode cX4_lean 1 = .ok (.iconst 1, 1) := dk_4 (dk_at dksX4_lean_0 1 rfl rfl)
theorem dX4_lean_2 : decode cX4_lean 2 = .ok (.putfield 1, 3) := dk_181 0 1 (dk_at dksX4_lean_0 2 rfl rfl)
theorem dX4_lean_5 : decode cX4_lean 5 = .ok (.aload_n 0, 1) := dk_42 (dk_at dksX4_lean_0 5 rfl rfl)
theorem dX4_lean_6 : decode cX4_lean 6 = .ok (.iload_n 1, 1) := dk_27 (dk_at dksX4_lean_0 6 rfl rfl)
theorem dX4_lean_7 : decode cX4_lean 7 = .ok (.invokevirtual 378, 3) := dk_182 1 122 (dk_at dksX4_lean_0 7 rfl rfl)
theorem dX4_lean_10 : decode cX4_lean 10 = .ok (.ifCond .ne 5, 3) := dk_154 0 5 (dk_at dksX4_lean_0 10 rfl rfl)
theorem dX4_lean_13 : decode cX4_lean 13 = .ok (.iconst 0, 1) := dk_3 (dk_at dksX4_lean_0 13 rfl rfl)
theorem dX4_lean_14 : decode cX4_lean 14 = .ok (.ireturn, 1) := dk_172 (dk_at dksX4_lean_0 14 rfl rfl)
theorem dX4_lean_15 : decode cX4_lean 15 = .ok (.aload_n 0, 1) := dk_42 (dk_at dksX4_lean_0 15 rfl rfl)
theorem dX4_lean_16 : decode cX4_lean 16 = .ok (.invokevirtual 462, 3) := dk_182 1 206 (dk_at dksX4_lean_0 16 rfl rfl)
theorem dX4_lean_19 : decode cX4_lean 19 = .ok (.aload_n 0, 1) := dk_42 (dk_at dksX4_lean_0 19 rfl rfl)
theorem dX4_lean_20 : decode cX4_lean 20 = .ok (.aload_n 0, 1) := dk_42 (dk_at dksX4_lean_0 20 rfl rfl)
theorem dX4_lean_21 : decode cX4_lean 21 = .ok (.getfield 188, 3) := dk_180 0 188 (dk_at dksX4_lean_0 21 rfl rfl)
theorem dX4_lean_24 : decode cX4_lean 24 = .ok (.iload_n 1, 1) := dk_27 (dk_at dksX4_lean_1 0 rfl rfl)
theorem dX4_lean_25 : decode cX4_lean 25 = .ok (.iaload, 1) := dk_46 (dk_at dksX4_lean_1 1 rfl rfl)
theorem dX4_lean_26 : decode cX4_lean 26 = .ok (.iconst 2, 1) := dk_5 (dk_at dksX4_lean_1 2 rfl rfl)
theorem dX4_lean_27 : decode cX4_lean 27 = .ok (.if_icmp .ge 7, 3) := dk_162 0 7 (dk_at dksX4_lean_1 3 rfl rfl)
theorem dX4_lean_30 : decode cX4_lean 30 = .ok (.iconst 1, 1) := dk_4 (dk_at dksX4_lean_1 6 rfl rfl)
theorem dX4_lean_31 : decode cX4_lean 31 = .ok (.goto 4, 3) := dk_167 0 4 (dk_at dksX4_lean_1 7 rfl rfl)
theorem dX4_lean_34 : decode cX4_lean 34 = .ok (.iconst 0, 1) := dk_3 (dk_at dksX4_lean_1 10 rfl rfl)
theorem dX4_lean_35 : decode cX4_lean 35 = .ok (.putfield 1, 3) := dk_181 0 1 (dk_at dksX4_lean_1 11 rfl rfl)
theorem dX4_lean_38 : decode cX4_lean 38 = .ok (.aload_n 0, 1) := dk_42 (dk_at dksX4_lean_1 14 rfl rfl)
theorem dX4_lean_39 : decode cX4_lean 39 = .ok (.getfield 1, 3) := dk_180 0 1 (dk_at dksX4_lean_1 15 rfl rfl)
theorem dX4_lean_42 : decode cX4_lean 42 = .ok (.ifCond .le 7, 3) := dk_158 0 7 (dk_at dksX4_lean_1 18 rfl rfl)
theorem dX4_lean_45 : decode cX4_lean 45 = .ok (.iconst 0, 1) := dk_3 (dk_at dksX4_lean_1 21 rfl rfl)
theorem dX4_lean_46 : decode cX4_lean 46 = .ok (.goto 9, 3) := dk_167 0 9 (dk_at dksX4_lean_2 0 rfl rfl)
theorem dX4_lean_49 : decode cX4_lean 49 = .ok (.aload_n 0, 1) := dk_42 (dk_at dksX4_lean_2 3 rfl rfl)
theorem dX4_lean_50 : decode cX4_lean 50 = .ok (.getfield 185, 3) := dk_180 0 185 (dk_at dksX4_lean_2 4 rfl rfl)
theorem dX4_lean_53 : decode cX4_lean 53 = .ok (.iload_n 1, 1) := dk_27 (dk_at dksX4_lean_2 7 rfl rfl)
theorem dX4_lean_54 : decode cX4_lean 54 = .ok (.iaload, 1) := dk_46 (dk_at dksX4_lean_2 8 rfl rfl)
theorem dX4_lean_55 : decode cX4_lean 55 = .ok (.ireturn, 1) := dk_172 (dk_at dksX4_lean_2 9 rfl rfl)
abbrev cX4_meetings : ByteArray := prog_21_method_72_code
def yX4_meetings : MethodName := ⟨RX4, "meetings", "(II)I"⟩
def dkwX4_meetings_4 : List UInt8 := [167, 0, 4, 3, 96, 62, 132, 5, 1, 167, 255, 203, 132, 4, 1, 167, 255, 185, 29, 172]
abbrev dktX4_meetings_4 : List UInt8 := dkwX4_meetings_4 ++ []
def dkwX4_meetings_3 : List UInt8 := [180, 0, 137, 21, 5, 46, 28, 160, 0, 18, 42, 21, 4, 21, 5, 182, 1, 203, 153, 0, 7, 4]
abbrev dktX4_meetings_3 : List UInt8 := dkwX4_meetings_3 ++ dktX4_meetings_4
def dkwX4_meetings_2 : List UInt8 := [54, 5, 21, 5, 42, 180, 1, 116, 162, 0, 50, 29, 42, 180, 0, 137, 21, 4, 46, 27, 160, 0, 29, 42]
abbrev dktX4_meetings_2 : List UInt8 := dkwX4_meetings_2 ++ dktX4_meetings_3
def dkwX4_meetings_1 : List UInt8 := [160, 0, 5, 2, 172, 42, 182, 1, 194, 3, 62, 3, 54, 4, 21, 4, 42, 180, 1, 116, 162, 0, 68, 3]
abbrev dktX4_meetings_1 : List UInt8 := dkwX4_meetings_1 ++ dktX4_meetings_2
def dkwX4_meetings_0 : List UInt8 := [42, 3, 181, 0, 1, 42, 27, 182, 1, 122, 153, 0, 16, 42, 28, 182, 1, 122, 153, 0, 8, 27, 28]
abbrev dktX4_meetings_0 : List UInt8 := dkwX4_meetings_0 ++ dktX4_meetings_1
theorem dksX4_meetings_0 : cX4_meetings.data.toList.drop 0 = dktX4_meetings_0 := by decide +kernel
theorem dksX4_meetings_1 : cX4_meetings.data.toList.drop 23 = dktX4_meetings_1 := dk_seg dksX4_meetings_0 23 rfl rfl
theorem dksX4_meetings_2 : cX4_meetings.data.toList.drop 47 = dktX4_meetings_2 := dk_seg dksX4_meetings_1 24 rfl rfl
theorem dksX4_meetings_3 : cX4_meetings.data.toList.drop 71 = dktX4_meetings_3 := dk_seg dksX4_meetings_2 24 rfl rfl
theorem dksX4_meetings_4 : cX4_meetings.data.toList.drop 93 = dktX4_meetings_4 := dk_seg dksX4_meetings_3 22 rfl rfl
theorem dX4_meetings_0 : decode cX4_meetings 0 = .ok (.aload_n 0, 1) := dk_42 (dk_at dksX4_meetings_0 0 rfl rfl)
theorem dX4_meetings_1 : decode cX4_meetings 1 = .ok (.iconst 0, 1) := dk_3 (dk_at dksX4_meetings_0 1 rfl rfl)
theorem dX4_meetings_2 : decode cX4_meetings 2 = .ok (.putfield 1, 3) := dk_181 0 1 (dk_at dksX4_meetings_0 2 rfl rfl)
theorem dX4_meetings_5 : decode cX4_meetings 5 = .ok (.aload_n 0, 1) := dk_42 (dk_at dksX4_meetings_0 5 rfl rfl)
theorem dX4_meetings_6 : decode cX4_meetings 6 = .ok (.iload_n 1, 1) := dk_27 (dk_at dksX4_meetings_0 6 rfl rfl)
theorem dX4_meetings_7 : decode cX4_meetings 7 = .ok (.invokevirtual 378, 3) := dk_182 1 122 (dk_at dksX4_meetings_0 7 rfl rfl)
theorem dX4_meetings_10 : decode cX4_meetings 10 = .ok (.ifCond .eq 16, 3) := dk_153 0 16 (dk_at dksX4_meetings_0 10 rfl rfl)
theorem dX4_meetings_13 : decode cX4_meetings 13 = .ok (.aload_n 0, 1) := dk_42 (dk_at dksX4_meetings_0 13 rfl rfl)
theorem dX4_meetings_14 : decode cX4_meetings 14 = .ok (.iload_n 2, 1) := dk_28 (dk_at dksX4_meetings_0 14 rfl rfl)
theorem dX4_meetings_15 : decode cX4_meetings 15 = .ok (.invokevirtual 378, 3) := dk_182 1 122 (dk_at dksX4_meetings_0 15 rfl rfl)
theorem dX4_meetings_18 : decode cX4_meetings 18 = .ok (.ifCond .eq 8, 3) := dk_153 0 8 (dk_at dksX4_meetings_0 18 rfl rfl)
theorem dX4_meetings_21 : decode cX4_meetings 21 = .ok (.iload_n 1, 1) := dk_27 (dk_at dksX4_meetings_0 21 rfl rfl)
theorem dX4_meetings_22 : decode cX4_meetings 22 = .ok (.iload_n 2, 1) := dk_28 (dk_at dksX4_meetings_0 22 rfl rfl)
theorem dX4_meetings_23 : decode cX4_meetings 23 = .ok (.if_icmp .ne 5, 3) := dk_160 0 5 (dk_at dksX4_meetings_1 0 rfl rfl)
theorem dX4_meetings_26 : decode cX4_meetings 26 = .ok (.iconst (-1), 1) := dk_2 (dk_at dksX4_meetings_1 3 rfl rfl)
theorem dX4_meetings_27 : decode cX4_meetings 27 = .ok (.ireturn, 1) := dk_172 (dk_at dksX4_meetings_1 4 rfl rfl)
theorem dX4_meetings_28 : decode cX4_meetings 28 = .ok (.aload_n 0, 1) := dk_42 (dk_at dksX4_meetings_1 5 rfl rfl)
theorem dX4_meetings_29 : decode cX4_meetings 29 = .ok (.invokevirtual 450, 3) := dk_182 1 194 (dk_at dksX4_meetings_1 6 rfl rfl)
theorem dX4_meetings_32 : decode cX4_meetings 32 = .ok (.iconst 0, 1) := dk_3 (dk_at dksX4_meetings_1 9 rfl rfl)
theorem dX4_meetings_33 : decode cX4_meetings 33 = .ok (.istore_n 3, 1) := dk_62 (dk_at dksX4_meetings_1 10 rfl rfl)
theorem dX4_meetings_34 : decode cX4_meetings 34 = .ok (.iconst 0, 1) := dk_3 (dk_at dksX4_meetings_1 11 rfl rfl)
theorem dX4_meetings_35 : decode cX4_meetings 35 = .ok (.istore 4, 2) := dk_54 4 (dk_at dksX4_meetings_1 12 rfl rfl)
theorem dX4_meetings_37 : decode cX4_meetings 37 = .ok (.iload 4, 2) := dk_21 4 (dk_at dksX4_meetings_1 14 rfl rfl)
theorem dX4_meetings_39 : decode cX4_meetings 39 = .ok (.aload_n 0, 1) := dk_42 (dk_at dksX4_meetings_1 16 rfl rfl)
theorem dX4_meetings_40 : decode cX4_meetings 40 = .ok (.getfield 372, 3) := dk_180 1 116 (dk_at dksX4_meetings_1 17 rfl rfl)
theorem dX4_meetings_43 : decode cX4_meetings 43 = .ok (.if_icmp .ge 68, 3) := dk_162 0 68 (dk_at dksX4_meetings_1 20 rfl rfl)
theorem dX4_meetings_46 : decode cX4_meetings 46 = .ok (.iconst 0, 1) := dk_3 (dk_at dksX4_meetings_1 23 rfl rfl)
theorem dX4_meetings_47 : decode cX4_meetings 47 = .ok (.istore 5, 2) := dk_54 5 (dk_at dksX4_meetings_2 0 rfl rfl)
theorem dX4_meetings_49 : decode cX4_meetings 49 = .ok (.iload 5, 2) := dk_21 5 (dk_at dksX4_meetings_2 2 rfl rfl)
theorem dX4_meetings_51 : decode cX4_meetings 51 = .ok (.aload_n 0, 1) := dk_42 (dk_at dksX4_meetings_2 4 rfl rfl)
theorem dX4_meetings_52 : decode cX4_meetings 52 = .ok (.getfield 372, 3) := dk_180 1 116 (dk_at dksX4_meetings_2 5 rfl rfl)
theorem dX4_meetings_55 : decode cX4_meetings 55 = .ok (.if_icmp .ge 50, 3) := dk_162 0 50 (dk_at dksX4_meetings_2 8 rfl rfl)
theorem dX4_meetings_58 : decode cX4_meetings 58 = .ok (.iload_n 3, 1) := dk_29 (dk_at dksX4_meetings_2 11 rfl rfl)
theorem dX4_meetings_59 : decode cX4_meetings 59 = .ok (.aload_n 0, 1) := dk_42 (dk_at dksX4_meetings_2 12 rfl rfl)
theorem dX4_meetings_60 : decode cX4_meetings 60 = .ok (.getfield 137, 3) := dk_180 0 137 (dk_at dksX4_meetings_2 13 rfl rfl)
theorem dX4_meetings_63 : decode cX4_meetings 63 = .ok (.iload 4, 2) := dk_21 4 (dk_at dksX4_meetings_2 16 rfl rfl)
theorem dX4_meetings_65 : decode cX4_meetings 65 = .ok (.iaload, 1) := dk_46 (dk_at dksX4_meetings_2 18 rfl rfl)
theorem dX4_meetings_66 : decode cX4_meetings 66 = .ok (.iload_n 1, 1) := dk_27 (dk_at dksX4_meetings_2 19 rfl rfl)
theorem dX4_meetings_67 : decode cX4_meetings 67 = .ok (.if_icmp .ne 29, 3) := dk_160 0 29 (dk_at dksX4_meetings_2 20 rfl rfl)
theorem dX4_meetings_70 : decode cX4_meetings 70 = .ok (.aload_n 0, 1) := dk_42 (dk_at dksX4_meetings_2 23 rfl rfl)
theorem dX4_meetings_71 : decode cX4_meetings 71 = .ok (.getfield 137, 3) := dk_180 0 137 (dk_at dksX4_meetings_3 0 rfl rfl)
theorem dX4_meetings_74 : decode cX4_meetings 74 = .ok (.iload 5, 2) := dk_21 5 (dk_at dksX4_meetings_3 3 rfl rfl)
theorem dX4_meetings_76 : decode cX4_meetings 76 = .ok (.iaload, 1) := dk_46 (dk_at dksX4_meetings_3 5 rfl rfl)
theorem dX4_meetings_77 : decode cX4_meetings 77 = .ok (.iload_n 2, 1) := dk_28 (dk_at dksX4_meetings_3 6 rfl rfl)
theorem dX4_meetings_78 : decode cX4_meetings 78 = .ok (.if_icmp .ne 18, 3) := dk_160 0 18 (dk_at dksX4_meetings_3 7 rfl rfl)
theorem dX4_meetings_81 : decode cX4_meetings 81 = .ok (.aload_n 0, 1) := dk_42 (dk_at dksX4_meetings_3 10 rfl rfl)
theorem dX4_meetings_82 : decode cX4_meetings 82 = .ok (.iload 4, 2) := dk_21 4 (dk_at dksX4_meetings_3 11 rfl rfl)
theorem dX4_meetings_84 : decode cX4_meetings 84 = .ok (.iload 5, 2) := dk_21 5 (dk_at dksX4_meetings_3 13 rfl rfl)
theorem dX4_meetings_86 : decode cX4_meetings 86 = .ok (.invokevirtual 459, 3) := dk_182 1 203 (dk_at dksX4_meetings_3 15 rfl rfl)
theorem dX4_meetings_89 : decode cX4_meetings 89 = .ok (.ifCond .eq 7, 3) := dk_153 0 7 (dk_at dksX4_meetings_3 18 rfl rfl)
theorem dX4_meetings_92 : decode cX4_meetings 92 = .ok (.iconst 1, 1) := dk_4 (dk_at dksX4_meetings_3 21 rfl rfl)
theorem dX4_meetings_93 : decode cX4_meetings 93 = .ok (.goto 4, 3) := dk_167 0 4 (dk_at dksX4_meetings_4 0 rfl rfl)
theorem dX4_meetings_96 : decode cX4_meetings 96 = .ok (.iconst 0, 1) := dk_3 (dk_at dksX4_meetings_4 3 rfl rfl)
theorem dX4_meetings_97 : decode cX4_meetings 97 = .ok (.iadd, 1) := dk_96 (dk_at dksX4_meetings_4 4 rfl rfl)
theorem dX4_meetings_98 : decode cX4_meetings 98 = .ok (.istore_n 3, 1) := dk_62 (dk_at dksX4_meetings_4 5 rfl rfl)
theorem dX4_meetings_99 : decode cX4_meetings 99 = .ok (.iinc 5 1, 3) := dk_132 5 1 (dk_at dksX4_meetings_4 6 rfl rfl)
theorem dX4_meetings_102 : decode cX4_meetings 102 = .ok (.goto (-53), 3) := dk_167 255 203 (dk_at dksX4_meetings_4 9 rfl rfl)
theorem dX4_meetings_105 : decode cX4_meetings 105 = .ok (.iinc 4 1, 3) := dk_132 4 1 (dk_at dksX4_meetings_4 12 rfl rfl)
theorem dX4_meetings_108 : decode cX4_meetings 108 = .ok (.goto (-71), 3) := dk_167 255 185 (dk_at dksX4_meetings_4 15 rfl rfl)
theorem dX4_meetings_111 : decode cX4_meetings 111 = .ok (.iload_n 3, 1) := dk_29 (dk_at dksX4_meetings_4 18 rfl rfl)
theorem dX4_meetings_112 : decode cX4_meetings 112 = .ok (.ireturn, 1) := dk_172 (dk_at dksX4_meetings_4 19 rfl rfl)
abbrev cX4_mean : ByteArray := prog_21_method_76_code
def yX4_mean : MethodName := ⟨RX4, "mean", "(III)I"⟩
def dkwX4_mean_1 : List UInt8 := [158, 0, 7, 3, 167, 0, 9, 42, 180, 0, 191, 27, 46, 172]
abbrev dktX4_mean_1 : List UInt8 := dkwX4_mean_1 ++ []
def dkwX4_mean_0 : List UInt8 := [42, 42, 27, 28, 29, 182, 1, 218, 153, 0, 7, 3, 167, 0, 4, 4, 181, 0, 1, 42, 180, 0, 1]
abbrev dktX4_mean_0 : List UInt8 := dkwX4_mean_0 ++ dktX4_mean_1
theorem dksX4_mean_0 : cX4_mean.data.toList.drop 0 = dktX4_mean_0 := by decide +kernel
theorem dksX4_mean_1 : cX4_mean.data.toList.drop 23 = dktX4_mean_1 := dk_seg dksX4_mean_0 23 rfl rfl
theorem dX4_mean_0 : decode cX4_mean 0 = .ok (.aload_n 0, 1) := dk_42 (dk_at dksX4_mean_0 0 rfl rfl)
theorem dX4_mean_1 : decode cX4_mean 1 = .ok (.aload_n 0, 1) := dk_42 (dk_at dksX4_mean_0 1 rfl rfl)
theorem dX4_mean_2 : decode cX4_mean 2 = .ok (.iload_n 1, 1) := dk_27 (dk_at dksX4_mean_0 2 rfl rfl)
theorem dX4_mean_3 : decode cX4_mean 3 = .ok (.iload_n 2, 1) := dk_28 (dk_at dksX4_mean_0 3 rfl rfl)
theorem dX4_mean_4 : decode cX4_mean 4 = .ok (.iload_n 3, 1) := dk_29 (dk_at dksX4_mean_0 4 rfl rfl)
theorem dX4_mean_5 : decode cX4_mean 5 = .ok (.invokevirtual 474, 3) := dk_182 1 218 (dk_at dksX4_mean_0 5 rfl rfl)
theorem dX4_mean_8 : decode cX4_mean 8 = .ok (.ifCond .eq 7, 3) := dk_153 0 7 (dk_at dksX4_mean_0 8 rfl rfl)
theorem dX4_mean_11 : decode cX4_mean 11 = .ok (.iconst 0, 1) := dk_3 (dk_at dksX4_mean_0 11 rfl rfl)
theorem dX4_mean_12 : decode cX4_mean 12 = .ok (.goto 4, 3) := dk_167 0 4 (dk_at dksX4_mean_0 12 rfl rfl)
theorem dX4_mean_15 : decode cX4_mean 15 = .ok (.iconst 1, 1) := dk_4 (dk_at dksX4_mean_0 15 rfl rfl)
theorem dX4_mean_16 : decode cX4_mean 16 = .ok (.putfield 1, 3) := dk_181 0 1 (dk_at dksX4_mean_0 16 rfl rfl)
theorem dX4_mean_19 : decode cX4_mean 19 = .ok (.aload_n 0, 1) := dk_42 (dk_at dksX4_mean_0 19 rfl rfl)
theorem dX4_mean_20 : decode cX4_mean 20 = .ok (.getfield 1, 3) := dk_180 0 1 (dk_at dksX4_mean_0 20 rfl rfl)
theorem dX4_mean_23 : decode cX4_mean 23 = .ok (.ifCond .le 7, 3) := dk_158 0 7 (dk_at dksX4_mean_1 0 rfl rfl)
theorem dX4_mean_26 : decode cX4_mean 26 = .ok (.iconst 0, 1) := dk_3 (dk_at dksX4_mean_1 3 rfl rfl)
theorem dX4_mean_27 : decode cX4_mean 27 = .ok (.goto 9, 3) := dk_167 0 9 (dk_at dksX4_mean_1 4 rfl rfl)
theorem dX4_mean_30 : decode cX4_mean 30 = .ok (.aload_n 0, 1) := dk_42 (dk_at dksX4_mean_1 7 rfl rfl)
theorem dX4_mean_31 : decode cX4_mean 31 = .ok (.getfield 191, 3) := dk_180 0 191 (dk_at dksX4_mean_1 8 rfl rfl)
theorem dX4_mean_34 : decode cX4_mean 34 = .ok (.iload_n 1, 1) := dk_27 (dk_at dksX4_mean_1 11 rfl rfl)
theorem dX4_mean_35 : decode cX4_mean 35 = .ok (.iaload, 1) := dk_46 (dk_at dksX4_mean_1 12 rfl rfl)
theorem dX4_mean_36 : decode cX4_mean 36 = .ok (.ireturn, 1) := dk_172 (dk_at dksX4_mean_1 13 rfl rfl)
abbrev cX4_hasMean : ByteArray := prog_21_method_75_code
def yX4_hasMean : MethodName := ⟨RX4, "hasMean", "(III)Z"⟩
def dkwX4_hasMean_1 : List UInt8 := [42, 180, 0, 194, 27, 46, 158, 0, 7, 4, 167, 0, 4, 3, 172]
abbrev dktX4_hasMean_1 : List UInt8 := dkwX4_hasMean_1 ++ []
def dkwX4_hasMean_0 : List UInt8 := [42, 27, 182, 1, 119, 153, 0, 11, 28, 29, 184, 1, 212, 154, 0, 5, 3, 172, 42, 28, 29, 182, 1, 215]
abbrev dktX4_hasMean_0 : List UInt8 := dkwX4_hasMean_0 ++ dktX4_hasMean_1
theorem dksX4_hasMean_0 : cX4_hasMean.data.toList.drop 0 = dktX4_hasMean_0 := by decide +kernel
theorem dksX4_hasMean_1 : cX4_hasMean.data.toList.drop 24 = dktX4_hasMean_1 := dk_seg dksX4_hasMean_0 24 rfl rfl
theorem dX4_hasMean_0 : decode cX4_hasMean 0 = .ok (.aload_n 0, 1) := dk_42 (dk_at dksX4_hasMean_0 0 rfl rfl)
theorem dX4_hasMean_1 : decode cX4_hasMean 1 = .ok (.iload_n 1, 1) := dk_27 (dk_at dksX4_hasMean_0 1 rfl rfl)
theorem dX4_hasMean_2 : decode cX4_hasMean 2 = .ok (.invokevirtual 375, 3) := dk_182 1 119 (dk_at dksX4_hasMean_0 2 rfl rfl)
theorem dX4_hasMean_5 : decode cX4_hasMean 5 = .ok (.ifCond .eq 11, 3) := dk_153 0 11 (dk_at dksX4_hasMean_0 5 rfl rfl)
theorem dX4_hasMean_8 : decode cX4_hasMean 8 = .ok (.iload_n 2, 1) := dk_28 (dk_at dksX4_hasMean_0 8 rfl rfl)
theorem dX4_hasMean_9 : decode cX4_hasMean 9 = .ok (.iload_n 3, 1) := dk_29 (dk_at dksX4_hasMean_0 9 rfl rfl)
theorem dX4_hasMean_10 : decode cX4_hasMean 10 = .ok (.invokestatic 468, 3) := dk_184 1 212 (dk_at dksX4_hasMean_0 10 rfl rfl)
theorem dX4_hasMean_13 : decode cX4_hasMean 13 = .ok (.ifCond .ne 5, 3) := dk_154 0 5 (dk_at dksX4_hasMean_0 13 rfl rfl)
theorem dX4_hasMean_16 : decode cX4_hasMean 16 = .ok (.iconst 0, 1) := dk_3 (dk_at dksX4_hasMean_0 16 rfl rfl)
theorem dX4_hasMean_17 : decode cX4_hasMean 17 = .ok (.ireturn, 1) := dk_172 (dk_at dksX4_hasMean_0 17 rfl rfl)
theorem dX4_hasMean_18 : decode cX4_hasMean 18 = .ok (.aload_n 0, 1) := dk_42 (dk_at dksX4_hasMean_0 18 rfl rfl)
theorem dX4_hasMean_19 : decode cX4_hasMean 19 = .ok (.iload_n 2, 1) := dk_28 (dk_at dksX4_hasMean_0 19 rfl rfl)
theorem dX4_hasMean_20 : decode cX4_hasMean 20 = .ok (.iload_n 3, 1) := dk_29 (dk_at dksX4_hasMean_0 20 rfl rfl)
theorem dX4_hasMean_21 : decode cX4_hasMean 21 = .ok (.invokevirtual 471, 3) := dk_182 1 215 (dk_at dksX4_hasMean_0 21 rfl rfl)
theorem dX4_hasMean_24 : decode cX4_hasMean 24 = .ok (.aload_n 0, 1) := dk_42 (dk_at dksX4_hasMean_1 0 rfl rfl)
theorem dX4_hasMean_25 : decode cX4_hasMean 25 = .ok (.getfield 194, 3) := dk_180 0 194 (dk_at dksX4_hasMean_1 1 rfl rfl)
theorem dX4_hasMean_28 : decode cX4_hasMean 28 = .ok (.iload_n 1, 1) := dk_27 (dk_at dksX4_hasMean_1 4 rfl rfl)
theorem dX4_hasMean_29 : decode cX4_hasMean 29 = .ok (.iaload, 1) := dk_46 (dk_at dksX4_hasMean_1 5 rfl rfl)
theorem dX4_hasMean_30 : decode cX4_hasMean 30 = .ok (.ifCond .le 7, 3) := dk_158 0 7 (dk_at dksX4_hasMean_1 6 rfl rfl)
theorem dX4_hasMean_33 : decode cX4_hasMean 33 = .ok (.iconst 1, 1) := dk_4 (dk_at dksX4_hasMean_1 9 rfl rfl)
theorem dX4_hasMean_34 : decode cX4_hasMean 34 = .ok (.goto 4, 3) := dk_167 0 4 (dk_at dksX4_hasMean_1 10 rfl rfl)
theorem dX4_hasMean_37 : decode cX4_hasMean 37 = .ok (.iconst 0, 1) := dk_3 (dk_at dksX4_hasMean_1 13 rfl rfl)
theorem dX4_hasMean_38 : decode cX4_hasMean 38 = .ok (.ireturn, 1) := dk_172 (dk_at dksX4_hasMean_1 14 rfl rfl)
abbrev cX4_areDays : ByteArray := prog_21_method_73_code
def yX4_areDays : MethodName := ⟨RX4, "areDays", "(II)Z"⟩
def dkwX4_areDays_1 : List UInt8 := [172]
abbrev dktX4_areDays_1 : List UInt8 := dkwX4_areDays_1 ++ []
def dkwX4_areDays_0 : List UInt8 := [26, 184, 1, 200, 153, 0, 19, 27, 184, 1, 200, 153, 0, 12, 26, 27, 163, 0, 7, 4, 167, 0, 4, 3]
abbrev dktX4_areDays_0 : List UInt8 := dkwX4_areDays_0 ++ dktX4_areDays_1
theorem dksX4_areDays_0 : cX4_areDays.data.toList.drop 0 = dktX4_areDays_0 := by decide +kernel
theorem dksX4_areDays_1 : cX4_areDays.data.toList.drop 24 = dktX4_areDays_1 := dk_seg dksX4_areDays_0 24 rfl rfl
theorem dX4_areDays_0 : decode cX4_areDays 0 = .ok (.iload_n 0, 1) := dk_26 (dk_at dksX4_areDays_0 0 rfl rfl)
theorem dX4_areDays_1 : decode cX4_areDays 1 = .ok (.invokestatic 456, 3) := dk_184 1 200 (dk_at dksX4_areDays_0 1 rfl rfl)
theorem dX4_areDays_4 : decode cX4_areDays 4 = .ok (.ifCond .eq 19, 3) := dk_153 0 19 (dk_at dksX4_areDays_0 4 rfl rfl)
theorem dX4_areDays_7 : decode cX4_areDays 7 = .ok (.iload_n 1, 1) := dk_27 (dk_at dksX4_areDays_0 7 rfl rfl)
theorem dX4_areDays_8 : decode cX4_areDays 8 = .ok (.invokestatic 456, 3) := dk_184 1 200 (dk_at dksX4_areDays_0 8 rfl rfl)
theorem dX4_areDays_11 : decode cX4_areDays 11 = .ok (.ifCond .eq 12, 3) := dk_153 0 12 (dk_at dksX4_areDays_0 11 rfl rfl)
theorem dX4_areDays_14 : decode cX4_areDays 14 = .ok (.iload_n 0, 1) := dk_26 (dk_at dksX4_areDays_0 14 rfl rfl)
theorem dX4_areDays_15 : decode cX4_areDays 15 = .ok (.iload_n 1, 1) := dk_27 (dk_at dksX4_areDays_0 15 rfl rfl)
theorem dX4_areDays_16 : decode cX4_areDays 16 = .ok (.if_icmp .gt 7, 3) := dk_163 0 7 (dk_at dksX4_areDays_0 16 rfl rfl)
theorem dX4_areDays_19 : decode cX4_areDays 19 = .ok (.iconst 1, 1) := dk_4 (dk_at dksX4_areDays_0 19 rfl rfl)
theorem dX4_areDays_20 : decode cX4_areDays 20 = .ok (.goto 4, 3) := dk_167 0 4 (dk_at dksX4_areDays_0 20 rfl rfl)
theorem dX4_areDays_23 : decode cX4_areDays 23 = .ok (.iconst 0, 1) := dk_3 (dk_at dksX4_areDays_0 23 rfl rfl)
theorem dX4_areDays_24 : decode cX4_areDays 24 = .ok (.ireturn, 1) := dk_172 (dk_at dksX4_areDays_1 0 rfl rfl)
abbrev cX4_findMeans : ByteArray := prog_21_method_74_code
def yX4_findMeans : MethodName := ⟨RX4, "findMeans", "(II)V"⟩
def dkwX4_findMeans_5 : List UInt8 := [16, 100, 21, 4, 104, 42, 180, 0, 194, 29, 46, 108, 79, 132, 3, 1, 167, 255, 130, 177]
abbrev dktX4_findMeans_5 : List UInt8 := dkwX4_findMeans_5 ++ []
def dkwX4_findMeans_4 : List UInt8 := [132, 5, 1, 167, 255, 188, 42, 180, 0, 191, 29, 42, 180, 0, 194, 29, 46, 154, 0, 7, 3, 167, 0, 15]
abbrev dktX4_findMeans_4 : List UInt8 := dkwX4_findMeans_4 ++ dktX4_findMeans_5
def dkwX4_findMeans_3 : List UInt8 := [153, 0, 24, 21, 4, 42, 21, 5, 182, 1, 209, 96, 54, 4, 42, 180, 0, 194, 29, 92, 46, 4, 96, 79]
abbrev dktX4_findMeans_3 : List UInt8 := dkwX4_findMeans_3 ++ dktX4_findMeans_4
def dkwX4_findMeans_2 : List UInt8 := [180, 0, 134, 21, 5, 46, 29, 160, 0, 39, 42, 180, 0, 140, 21, 5, 46, 27, 28, 184, 1, 102]
abbrev dktX4_findMeans_2 : List UInt8 := dkwX4_findMeans_2 ++ dktX4_findMeans_3
def dkwX4_findMeans_1 : List UInt8 := [3, 54, 5, 21, 5, 42, 180, 1, 116, 162, 0, 65, 42, 21, 5, 182, 1, 197, 153, 0, 50, 42]
abbrev dktX4_findMeans_1 : List UInt8 := dkwX4_findMeans_1 ++ dktX4_findMeans_2
def dkwX4_findMeans_0 : List UInt8 := [42, 182, 1, 206, 3, 62, 29, 42, 180, 1, 110, 162, 0, 124, 3, 54, 4, 42, 180, 0, 194, 29, 3, 79]
abbrev dktX4_findMeans_0 : List UInt8 := dkwX4_findMeans_0 ++ dktX4_findMeans_1
theorem dksX4_findMeans_0 : cX4_findMeans.data.toList.drop 0 = dktX4_findMeans_0 := by decide +kernel
theorem dksX4_findMeans_1 : cX4_findMeans.data.toList.drop 24 = dktX4_findMeans_1 := dk_seg dksX4_findMeans_0 24 rfl rfl
theorem dksX4_findMeans_2 : cX4_findMeans.data.toList.drop 46 = dktX4_findMeans_2 := dk_seg dksX4_findMeans_1 22 rfl rfl
theorem dksX4_findMeans_3 : cX4_findMeans.data.toList.drop 68 = dktX4_findMeans_3 := dk_seg dksX4_findMeans_2 22 rfl rfl
theorem dksX4_findMeans_4 : cX4_findMeans.data.toList.drop 92 = dktX4_findMeans_4 := dk_seg dksX4_findMeans_3 24 rfl rfl
theorem dksX4_findMeans_5 : cX4_findMeans.data.toList.drop 116 = dktX4_findMeans_5 := dk_seg dksX4_findMeans_4 24 rfl rfl
theorem dX4_findMeans_0 : decode cX4_findMeans 0 = .ok (.aload_n 0, 1) := dk_42 (dk_at dksX4_findMeans_0 0 rfl rfl)
theorem dX4_findMeans_1 : decode cX4_findMeans 1 = .ok (.invokevirtual 462, 3) := dk_182 1 206 (dk_at dksX4_findMeans_0 1 rfl rfl)
theorem dX4_findMeans_4 : decode cX4_findMeans 4 = .ok (.iconst 0, 1) := dk_3 (dk_at dksX4_findMeans_0 4 rfl rfl)
theorem dX4_findMeans_5 : decode cX4_findMeans 5 = .ok (.istore_n 3, 1) := dk_62 (dk_at dksX4_findMeans_0 5 rfl rfl)
theorem dX4_findMeans_6 : decode cX4_findMeans 6 = .ok (.iload_n 3, 1) := dk_29 (dk_at dksX4_findMeans_0 6 rfl rfl)
theorem dX4_findMeans_7 : decode cX4_findMeans 7 = .ok (.aload_n 0, 1) := dk_42 (dk_at dksX4_findMeans_0 7 rfl rfl)
theorem dX4_findMeans_8 : decode cX4_findMeans 8 = .ok (.getfield 366, 3) := dk_180 1 110 (dk_at dksX4_findMeans_0 8 rfl rfl)
theorem dX4_findMeans_11 : decode cX4_findMeans 11 = .ok (.if_icmp .ge 124, 3) := dk_162 0 124 (dk_at dksX4_findMeans_0 11 rfl rfl)
theorem dX4_findMeans_14 : decode cX4_findMeans 14 = .ok (.iconst 0, 1) := dk_3 (dk_at dksX4_findMeans_0 14 rfl rfl)
theorem dX4_findMeans_15 : decode cX4_findMeans 15 = .ok (.istore 4, 2) := dk_54 4 (dk_at dksX4_findMeans_0 15 rfl rfl)
theorem dX4_findMeans_17 : decode cX4_findMeans 17 = .ok (.aload_n 0, 1) := dk_42 (dk_at dksX4_findMeans_0 17 rfl rfl)
theorem dX4_findMeans_18 : decode cX4_findMeans 18 = .ok (.getfield 194, 3) := dk_180 0 194 (dk_at dksX4_findMeans_0 18 rfl rfl)
theorem dX4_findMeans_21 : decode cX4_findMeans 21 = .ok (.iload_n 3, 1) := dk_29 (dk_at dksX4_findMeans_0 21 rfl rfl)
theorem dX4_findMeans_22 : decode cX4_findMeans 22 = .ok (.iconst 0, 1) := dk_3 (dk_at dksX4_findMeans_0 22 rfl rfl)
theorem dX4_findMeans_23 : decode cX4_findMeans 23 = .ok (.iastore, 1) := dk_79 (dk_at dksX4_findMeans_0 23 rfl rfl)
theorem dX4_findMeans_24 : decode cX4_findMeans 24 = .ok (.iconst 0, 1) := dk_3 (dk_at dksX4_findMeans_1 0 rfl rfl)
theorem dX4_findMeans_25 : decode cX4_findMeans 25 = .ok (.istore 5, 2) := dk_54 5 (dk_at dksX4_findMeans_1 1 rfl rfl)
theorem dX4_findMeans_27 : decode cX4_findMeans 27 = .ok (.iload 5, 2) := dk_21 5 (dk_at dksX4_findMeans_1 3 rfl rfl)
theorem dX4_findMeans_29 : decode cX4_findMeans 29 = .ok (.aload_n 0, 1) := dk_42 (dk_at dksX4_findMeans_1 5 rfl rfl)
theorem dX4_findMeans_30 : decode cX4_findMeans 30 = .ok (.getfield 372, 3) := dk_180 1 116 (dk_at dksX4_findMeans_1 6 rfl rfl)
theorem dX4_findMeans_33 : decode cX4_findMeans 33 = .ok (.if_icmp .ge 65, 3) := dk_162 0 65 (dk_at dksX4_findMeans_1 9 rfl rfl)
theorem dX4_findMeans_36 : decode cX4_findMeans 36 = .ok (.aload_n 0, 1) := dk_42 (dk_at dksX4_findMeans_1 12 rfl rfl)
theorem dX4_findMeans_37 : decode cX4_findMeans 37 = .ok (.iload 5, 2) := dk_21 5 (dk_at dksX4_findMeans_1 13 rfl rfl)
theorem dX4_findMeans_39 : decode cX4_findMeans 39 = .ok (.invokevirtual 453, 3) := dk_182 1 197 (dk_at dksX4_findMeans_1 15 rfl rfl)
theorem dX4_findMeans_42 : decode cX4_findMeans 42 = .ok (.ifCond .eq 50, 3) := dk_153 0 50 (dk_at dksX4_findMeans_1 18 rfl rfl)
theorem dX4_findMeans_45 : decode cX4_findMeans 45 = .ok (.aload_n 0, 1) := dk_42 (dk_at dksX4_findMeans_1 21 rfl rfl)
theorem dX4_findMeans_46 : decode cX4_findMeans 46 = .ok (.getfield 134, 3) := dk_180 0 134 (dk_at dksX4_findMeans_2 0 rfl rfl)
theorem dX4_findMeans_49 : decode cX4_findMeans 49 = .ok (.iload 5, 2) := dk_21 5 (dk_at dksX4_findMeans_2 3 rfl rfl)
theorem dX4_findMeans_51 : decode cX4_findMeans 51 = .ok (.iaload, 1) := dk_46 (dk_at dksX4_findMeans_2 5 rfl rfl)
theorem dX4_findMeans_52 : decode cX4_findMeans 52 = .ok (.iload_n 3, 1) := dk_29 (dk_at dksX4_findMeans_2 6 rfl rfl)
theorem dX4_findMeans_53 : decode cX4_findMeans 53 = .ok (.if_icmp .ne 39, 3) := dk_160 0 39 (dk_at dksX4_findMeans_2 7 rfl rfl)
theorem dX4_findMeans_56 : decode cX4_findMeans 56 = .ok (.aload_n 0, 1) := dk_42 (dk_at dksX4_findMeans_2 10 rfl rfl)
theorem dX4_findMeans_57 : decode cX4_findMeans 57 = .ok (.getfield 140, 3) := dk_180 0 140 (dk_at dksX4_findMeans_2 11 rfl rfl)
theorem dX4_findMeans_60 : decode cX4_findMeans 60 = .ok (.iload 5, 2) := dk_21 5 (dk_at dksX4_findMeans_2 14 rfl rfl)
theorem dX4_findMeans_62 : decode cX4_findMeans 62 = .ok (.iaload, 1) := dk_46 (dk_at dksX4_findMeans_2 16 rfl rfl)
theorem dX4_findMeans_63 : decode cX4_findMeans 63 = .ok (.iload_n 1, 1) := dk_27 (dk_at dksX4_findMeans_2 17 rfl rfl)
theorem dX4_findMeans_64 : decode cX4_findMeans 64 = .ok (.iload_n 2, 1) := dk_28 (dk_at dksX4_findMeans_2 18 rfl rfl)
theorem dX4_findMeans_65 : decode cX4_findMeans 65 = .ok (.invokestatic 358, 3) := dk_184 1 102 (dk_at dksX4_findMeans_2 19 rfl rfl)
theorem dX4_findMeans_68 : decode cX4_findMeans 68 = .ok (.ifCond .eq 24, 3) := dk_153 0 24 (dk_at dksX4_findMeans_3 0 rfl rfl)
theorem dX4_findMeans_71 : decode cX4_findMeans 71 = .ok (.iload 4, 2) := dk_21 4 (dk_at dksX4_findMeans_3 3 rfl rfl)
theorem dX4_findMeans_73 : decode cX4_findMeans 73 = .ok (.aload_n 0, 1) := dk_42 (dk_at dksX4_findMeans_3 5 rfl rfl)
theorem dX4_findMeans_74 : decode cX4_findMeans 74 = .ok (.iload 5, 2) := dk_21 5 (dk_at dksX4_findMeans_3 6 rfl rfl)
theorem dX4_findMeans_76 : decode cX4_findMeans 76 = .ok (.invokevirtual 465, 3) := dk_182 1 209 (dk_at dksX4_findMeans_3 8 rfl rfl)
theorem dX4_findMeans_79 : decode cX4_findMeans 79 = .ok (.iadd, 1) := dk_96 (dk_at dksX4_findMeans_3 11 rfl rfl)
theorem dX4_findMeans_80 : decode cX4_findMeans 80 = .ok (.istore 4, 2) := dk_54 4 (dk_at dksX4_findMeans_3 12 rfl rfl)
theorem dX4_findMeans_82 : decode cX4_findMeans 82 = .ok (.aload_n 0, 1) := dk_42 (dk_at dksX4_findMeans_3 14 rfl rfl)
theorem dX4_findMeans_83 : decode cX4_findMeans 83 = .ok (.getfield 194, 3) := dk_180 0 194 (dk_at dksX4_findMeans_3 15 rfl rfl)
theorem dX4_findMeans_86 : decode cX4_findMeans 86 = .ok (.iload_n 3, 1) := dk_29 (dk_at dksX4_findMeans_3 18 rfl rfl)
theorem dX4_findMeans_87 : decode cX4_findMeans 87 = .ok (.dup2, 1) := dk_92 (dk_at dksX4_findMeans_3 19 rfl rfl)
theorem dX4_findMeans_88 : decode cX4_findMeans 88 = .ok (.iaload, 1) := dk_46 (dk_at dksX4_findMeans_3 20 rfl rfl)
theorem dX4_findMeans_89 : decode cX4_findMeans 89 = .ok (.iconst 1, 1) := dk_4 (dk_at dksX4_findMeans_3 21 rfl rfl)
theorem dX4_findMeans_90 : decode cX4_findMeans 90 = .ok (.iadd, 1) := dk_96 (dk_at dksX4_findMeans_3 22 rfl rfl)
theorem dX4_findMeans_91 : decode cX4_findMeans 91 = .ok (.iastore, 1) := dk_79 (dk_at dksX4_findMeans_3 23 rfl rfl)
theorem dX4_findMeans_92 : decode cX4_findMeans 92 = .ok (.iinc 5 1, 3) := dk_132 5 1 (dk_at dksX4_findMeans_4 0 rfl rfl)
theorem dX4_findMeans_95 : decode cX4_findMeans 95 = .ok (.goto (-68), 3) := dk_167 255 188 (dk_at dksX4_findMeans_4 3 rfl rfl)
theorem dX4_findMeans_98 : decode cX4_findMeans 98 = .ok (.aload_n 0, 1) := dk_42 (dk_at dksX4_findMeans_4 6 rfl rfl)
theorem dX4_findMeans_99 : decode cX4_findMeans 99 = .ok (.getfield 191, 3) := dk_180 0 191 (dk_at dksX4_findMeans_4 7 rfl rfl)
theorem dX4_findMeans_102 : decode cX4_findMeans 102 = .ok (.iload_n 3, 1) := dk_29 (dk_at dksX4_findMeans_4 10 rfl rfl)
theorem dX4_findMeans_103 : decode cX4_findMeans 103 = .ok (.aload_n 0, 1) := dk_42 (dk_at dksX4_findMeans_4 11 rfl rfl)
theorem dX4_findMeans_104 : decode cX4_findMeans 104 = .ok (.getfield 194, 3) := dk_180 0 194 (dk_at dksX4_findMeans_4 12 rfl rfl)
theorem dX4_findMeans_107 : decode cX4_findMeans 107 = .ok (.iload_n 3, 1) := dk_29 (dk_at dksX4_findMeans_4 15 rfl rfl)
theorem dX4_findMeans_108 : decode cX4_findMeans 108 = .ok (.iaload, 1) := dk_46 (dk_at dksX4_findMeans_4 16 rfl rfl)
theorem dX4_findMeans_109 : decode cX4_findMeans 109 = .ok (.ifCond .ne 7, 3) := dk_154 0 7 (dk_at dksX4_findMeans_4 17 rfl rfl)
theorem dX4_findMeans_112 : decode cX4_findMeans 112 = .ok (.iconst 0, 1) := dk_3 (dk_at dksX4_findMeans_4 20 rfl rfl)
theorem dX4_findMeans_113 : decode cX4_findMeans 113 = .ok (.goto 15, 3) := dk_167 0 15 (dk_at dksX4_findMeans_4 21 rfl rfl)
theorem dX4_findMeans_116 : decode cX4_findMeans 116 = .ok (.bipush 100, 2) := dk_16 100 (dk_at dksX4_findMeans_5 0 rfl rfl)
theorem dX4_findMeans_118 : decode cX4_findMeans 118 = .ok (.iload 4, 2) := dk_21 4 (dk_at dksX4_findMeans_5 2 rfl rfl)
theorem dX4_findMeans_120 : decode cX4_findMeans 120 = .ok (.imul, 1) := dk_104 (dk_at dksX4_findMeans_5 4 rfl rfl)
theorem dX4_findMeans_121 : decode cX4_findMeans 121 = .ok (.aload_n 0, 1) := dk_42 (dk_at dksX4_findMeans_5 5 rfl rfl)
theorem dX4_findMeans_122 : decode cX4_findMeans 122 = .ok (.getfield 194, 3) := dk_180 0 194 (dk_at dksX4_findMeans_5 6 rfl rfl)
theorem dX4_findMeans_125 : decode cX4_findMeans 125 = .ok (.iload_n 3, 1) := dk_29 (dk_at dksX4_findMeans_5 9 rfl rfl)
theorem dX4_findMeans_126 : decode cX4_findMeans 126 = .ok (.iaload, 1) := dk_46 (dk_at dksX4_findMeans_5 10 rfl rfl)
theorem dX4_findMeans_127 : decode cX4_findMeans 127 = .ok (.idiv, 1) := dk_108 (dk_at dksX4_findMeans_5 11 rfl rfl)
theorem dX4_findMeans_128 : decode cX4_findMeans 128 = .ok (.iastore, 1) := dk_79 (dk_at dksX4_findMeans_5 12 rfl rfl)
theorem dX4_findMeans_129 : decode cX4_findMeans 129 = .ok (.iinc 3 1, 3) := dk_132 3 1 (dk_at dksX4_findMeans_5 13 rfl rfl)
theorem dX4_findMeans_132 : decode cX4_findMeans 132 = .ok (.goto (-126), 3) := dk_167 255 130 (dk_at dksX4_findMeans_5 16 rfl rfl)
theorem dX4_findMeans_135 : decode cX4_findMeans 135 = .ok (.return_, 1) := dk_177 (dk_at dksX4_findMeans_5 19 rfl rfl)
abbrev cX4_doubt : ByteArray := prog_21_method_78_code
def yX4_doubt : MethodName := ⟨RX4, "doubt", "(III)I"⟩
def dkwX4_doubt_1 : List UInt8 := [172]
abbrev dktX4_doubt_1 : List UInt8 := dkwX4_doubt_1 ++ []
def dkwX4_doubt_0 : List UInt8 := [42, 3, 181, 0, 1, 42, 27, 28, 29, 182, 1, 218, 153, 0, 11, 42, 27, 182, 1, 221, 167, 0, 4, 2]
abbrev dktX4_doubt_0 : List UInt8 := dkwX4_doubt_0 ++ dktX4_doubt_1
theorem dksX4_doubt_0 : cX4_doubt.data.toList.drop 0 = dktX4_doubt_0 := by decide +kernel
theorem dksX4_doubt_1 : cX4_doubt.data.toList.drop 24 = dktX4_doubt_1 := dk_seg dksX4_doubt_0 24 rfl rfl
theorem dX4_doubt_0 : decode cX4_doubt 0 = .ok (.aload_n 0, 1) := dk_42 (dk_at dksX4_doubt_0 0 rfl rfl)
theorem dX4_doubt_1 : decode cX4_doubt 1 = .ok (.iconst 0, 1) := dk_3 (dk_at dksX4_doubt_0 1 rfl rfl)
theorem dX4_doubt_2 : decode cX4_doubt 2 = .ok (.putfield 1, 3) := dk_181 0 1 (dk_at dksX4_doubt_0 2 rfl rfl)
theorem dX4_doubt_5 : decode cX4_doubt 5 = .ok (.aload_n 0, 1) := dk_42 (dk_at dksX4_doubt_0 5 rfl rfl)
theorem dX4_doubt_6 : decode cX4_doubt 6 = .ok (.iload_n 1, 1) := dk_27 (dk_at dksX4_doubt_0 6 rfl rfl)
theorem dX4_doubt_7 : decode cX4_doubt 7 = .ok (.iload_n 2, 1) := dk_28 (dk_at dksX4_doubt_0 7 rfl rfl)
theorem dX4_doubt_8 : decode cX4_doubt 8 = .ok (.iload_n 3, 1) := dk_29 (dk_at dksX4_doubt_0 8 rfl rfl)
theorem dX4_doubt_9 : decode cX4_doubt 9 = .ok (.invokevirtual 474, 3) := dk_182 1 218 (dk_at dksX4_doubt_0 9 rfl rfl)
theorem dX4_doubt_12 : decode cX4_doubt 12 = .ok (.ifCond .eq 11, 3) := dk_153 0 11 (dk_at dksX4_doubt_0 12 rfl rfl)
theorem dX4_doubt_15 : decode cX4_doubt 15 = .ok (.aload_n 0, 1) := dk_42 (dk_at dksX4_doubt_0 15 rfl rfl)
theorem dX4_doubt_16 : decode cX4_doubt 16 = .ok (.iload_n 1, 1) := dk_27 (dk_at dksX4_doubt_0 16 rfl rfl)
theorem dX4_doubt_17 : decode cX4_doubt 17 = .ok (.invokevirtual 477, 3) := dk_182 1 221 (dk_at dksX4_doubt_0 17 rfl rfl)
theorem dX4_doubt_20 : decode cX4_doubt 20 = .ok (.goto 4, 3) := dk_167 0 4 (dk_at dksX4_doubt_0 20 rfl rfl)
theorem dX4_doubt_23 : decode cX4_doubt 23 = .ok (.iconst (-1), 1) := dk_2 (dk_at dksX4_doubt_0 23 rfl rfl)
theorem dX4_doubt_24 : decode cX4_doubt 24 = .ok (.ireturn, 1) := dk_172 (dk_at dksX4_doubt_1 0 rfl rfl)
abbrev cX4_doubtOf : ByteArray := prog_21_method_77_code
def yX4_doubtOf : MethodName := ⟨RX4, "doubtOf", "(I)I"⟩
def dkwX4_doubtOf_0 : List UInt8 := [16, 100, 42, 180, 0, 225, 104, 42, 180, 0, 194, 27, 46, 108, 172]
abbrev dktX4_doubtOf_0 : List UInt8 := dkwX4_doubtOf_0 ++ []
theorem dksX4_doubtOf_0 : cX4_doubtOf.data.toList.drop 0 = dktX4_doubtOf_0 := by decide +kernel
theorem dX4_doubtOf_0 : decode cX4_doubtOf 0 = .ok (.bipush 100, 2) := dk_16 100 (dk_at dksX4_doubtOf_0 0 rfl rfl)
theorem dX4_doubtOf_2 : decode cX4_doubtOf 2 = .ok (.aload_n 0, 1) := dk_42 (dk_at dksX4_doubtOf_0 2 rfl rfl)
theorem dX4_doubtOf_3 : decode cX4_doubtOf 3 = .ok (.getfield 225, 3) := dk_180 0 225 (dk_at dksX4_doubtOf_0 3 rfl rfl)
theorem dX4_doubtOf_6 : decode cX4_doubtOf 6 = .ok (.imul, 1) := dk_104 (dk_at dksX4_doubtOf_0 6 rfl rfl)
theorem dX4_doubtOf_7 : decode cX4_doubtOf 7 = .ok (.aload_n 0, 1) := dk_42 (dk_at dksX4_doubtOf_0 7 rfl rfl)
theorem dX4_doubtOf_8 : decode cX4_doubtOf 8 = .ok (.getfield 194, 3) := dk_180 0 194 (dk_at dksX4_doubtOf_0 8 rfl rfl)
theorem dX4_doubtOf_11 : decode cX4_doubtOf 11 = .ok (.iload_n 1, 1) := dk_27 (dk_at dksX4_doubtOf_0 11 rfl rfl)
theorem dX4_doubtOf_12 : decode cX4_doubtOf 12 = .ok (.iaload, 1) := dk_46 (dk_at dksX4_doubtOf_0 12 rfl rfl)
theorem dX4_doubtOf_13 : decode cX4_doubtOf 13 = .ok (.idiv, 1) := dk_108 (dk_at dksX4_doubtOf_0 13 rfl rfl)
theorem dX4_doubtOf_14 : decode cX4_doubtOf 14 = .ok (.ireturn, 1) := dk_172 (dk_at dksX4_doubtOf_0 14 rfl rfl)
abbrev cX4_apart : ByteArray := prog_21_method_81_code
def yX4_apart : MethodName := ⟨RX4, "apart", "(IIII)I"⟩
def dkwX4_apart_2 : List UInt8 := [172]
abbrev dktX4_apart_2 : List UInt8 := dkwX4_apart_2 ++ []
def dkwX4_apart_1 : List UInt8 := [182, 1, 228, 153, 0, 7, 4, 167, 0, 17, 42, 28, 27, 182, 1, 228, 153, 0, 7, 5, 167, 0, 4, 3]
abbrev dktX4_apart_1 : List UInt8 := dkwX4_apart_1 ++ dktX4_apart_2
def dkwX4_apart_0 : List UInt8 := [42, 3, 181, 0, 1, 42, 27, 28, 29, 21, 4, 182, 1, 224, 154, 0, 7, 2, 167, 0, 30, 42, 27, 28]
abbrev dktX4_apart_0 : List UInt8 := dkwX4_apart_0 ++ dktX4_apart_1
theorem dksX4_apart_0 : cX4_apart.data.toList.drop 0 = dktX4_apart_0 := by decide +kernel
theorem dksX4_apart_1 : cX4_apart.data.toList.drop 24 = dktX4_apart_1 := dk_seg dksX4_apart_0 24 rfl rfl
theorem dksX4_apart_2 : cX4_apart.data.toList.drop 48 = dktX4_apart_2 := dk_seg dksX4_apart_1 24 rfl rfl
theorem dX4_apart_0 : decode cX4_apart 0 = .ok (.aload_n 0, 1) := dk_42 (dk_at dksX4_apart_0 0 rfl rfl)
theorem dX4_apart_1 : decode cX4_apart 1 = .ok (.iconst 0, 1) := dk_3 (dk_at dksX4_apart_0 1 rfl rfl)
theorem dX4_apart_2 : decode cX4_apart 2 = .ok (.putfield 1, 3) := dk_181 0 1 (dk_at dksX4_apart_0 2 rfl rfl)
theorem dX4_apart_5 : decode cX4_apart 5 = .ok (.aload_n 0, 1) := dk_42 (dk_at dksX4_apart_0 5 rfl rfl)
theorem dX4_apart_6 : decode cX4_apart 6 = .ok (.iload_n 1, 1) := dk_27 (dk_at dksX4_apart_0 6 rfl rfl)
theorem dX4_apart_7 : decode cX4_apart 7 = .ok (.iload_n 2, 1) := dk_28 (dk_at dksX4_apart_0 7 rfl rfl)
theorem dX4_apart_8 : decode cX4_apart 8 = .ok (.iload_n 3, 1) := dk_29 (dk_at dksX4_apart_0 8 rfl rfl)
theorem dX4_apart_9 : decode cX4_apart 9 = .ok (.iload 4, 2) := dk_21 4 (dk_at dksX4_apart_0 9 rfl rfl)
theorem dX4_apart_11 : decode cX4_apart 11 = .ok (.invokevirtual 480, 3) := dk_182 1 224 (dk_at dksX4_apart_0 11 rfl rfl)
theorem dX4_apart_14 : decode cX4_apart 14 = .ok (.ifCond .ne 7, 3) := dk_154 0 7 (dk_at dksX4_apart_0 14 rfl rfl)
theorem dX4_apart_17 : decode cX4_apart 17 = .ok (.iconst (-1), 1) := dk_2 (dk_at dksX4_apart_0 17 rfl rfl)
theorem dX4_apart_18 : decode cX4_apart 18 = .ok (.goto 30, 3) := dk_167 0 30 (dk_at dksX4_apart_0 18 rfl rfl)
theorem dX4_apart_21 : decode cX4_apart 21 = .ok (.aload_n 0, 1) := dk_42 (dk_at dksX4_apart_0 21 rfl rfl)
theorem dX4_apart_22 : decode cX4_apart 22 = .ok (.iload_n 1, 1) := dk_27 (dk_at dksX4_apart_0 22 rfl rfl)
theorem dX4_apart_23 : decode cX4_apart 23 = .ok (.iload_n 2, 1) := dk_28 (dk_at dksX4_apart_0 23 rfl rfl)
theorem dX4_apart_24 : decode cX4_apart 24 = .ok (.invokevirtual 484, 3) := dk_182 1 228 (dk_at dksX4_apart_1 0 rfl rfl)
theorem dX4_apart_27 : decode cX4_apart 27 = .ok (.ifCond .eq 7, 3) := dk_153 0 7 (dk_at dksX4_apart_1 3 rfl rfl)
theorem dX4_apart_30 : decode cX4_apart 30 = .ok (.iconst 1, 1) := dk_4 (dk_at dksX4_apart_1 6 rfl rfl)
theorem dX4_apart_31 : decode cX4_apart 31 = .ok (.goto 17, 3) := dk_167 0 17 (dk_at dksX4_apart_1 7 rfl rfl)
theorem dX4_apart_34 : decode cX4_apart 34 = .ok (.aload_n 0, 1) := dk_42 (dk_at dksX4_apart_1 10 rfl rfl)
theorem dX4_apart_35 : decode cX4_apart 35 = .ok (.iload_n 2, 1) := dk_28 (dk_at dksX4_apart_1 11 rfl rfl)
theorem dX4_apart_36 : decode cX4_apart 36 = .ok (.iload_n 1, 1) := dk_27 (dk_at dksX4_apart_1 12 rfl rfl)
theorem dX4_apart_37 : decode cX4_apart 37 = .ok (.invokevirtual 484, 3) := dk_182 1 228 (dk_at dksX4_apart_1 13 rfl rfl)
theorem dX4_apart_40 : decode cX4_apart 40 = .ok (.ifCond .eq 7, 3) := dk_153 0 7 (dk_at dksX4_apart_1 16 rfl rfl)
theorem dX4_apart_43 : decode cX4_apart 43 = .ok (.iconst 2, 1) := dk_5 (dk_at dksX4_apart_1 19 rfl rfl)
theorem dX4_apart_44 : decode cX4_apart 44 = .ok (.goto 4, 3) := dk_167 0 4 (dk_at dksX4_apart_1 20 rfl rfl)
theorem dX4_apart_47 : decode cX4_apart 47 = .ok (.iconst 0, 1) := dk_3 (dk_at dksX4_apart_1 23 rfl rfl)
theorem dX4_apart_48 : decode cX4_apart 48 = .ok (.ireturn, 1) := dk_172 (dk_at dksX4_apart_2 0 rfl rfl)
abbrev cX4_areTwo : ByteArray := prog_21_method_80_code
def yX4_areTwo : MethodName := ⟨RX4, "areTwo", "(IIII)Z"⟩
def dkwX4_areTwo_1 : List UInt8 := [153, 0, 7, 4, 167, 0, 4, 3, 172]
abbrev dktX4_areTwo_1 : List UInt8 := dkwX4_areTwo_1 ++ []
def dkwX4_areTwo_0 : List UInt8 := [27, 28, 159, 0, 29, 42, 27, 29, 21, 4, 182, 1, 218, 153, 0, 18, 42, 28, 29, 21, 4, 182, 1, 218]
abbrev dktX4_areTwo_0 : List UInt8 := dkwX4_areTwo_0 ++ dktX4_areTwo_1
theorem dksX4_areTwo_0 : cX4_areTwo.data.toList.drop 0 = dktX4_areTwo_0 := by decide +kernel
theorem dksX4_areTwo_1 : cX4_areTwo.data.toList.drop 24 = dktX4_areTwo_1 := dk_seg dksX4_areTwo_0 24 rfl rfl
theorem dX4_areTwo_0 : decode cX4_areTwo 0 = .ok (.iload_n 1, 1) := dk_27 (dk_at dksX4_areTwo_0 0 rfl rfl)
theorem dX4_areTwo_1 : decode cX4_areTwo 1 = .ok (.iload_n 2, 1) := dk_28 (dk_at dksX4_areTwo_0 1 rfl rfl)
theorem dX4_areTwo_2 : decode cX4_areTwo 2 = .ok (.if_icmp .eq 29, 3) := dk_159 0 29 (dk_at dksX4_areTwo_0 2 rfl rfl)
theorem dX4_areTwo_5 : decode cX4_areTwo 5 = .ok (.aload_n 0, 1) := dk_42 (dk_at dksX4_areTwo_0 5 rfl rfl)
theorem dX4_areTwo_6 : decode cX4_areTwo 6 = .ok (.iload_n 1, 1) := dk_27 (dk_at dksX4_areTwo_0 6 rfl rfl)
theorem dX4_areTwo_7 : decode cX4_areTwo 7 = .ok (.iload_n 3, 1) := dk_29 (dk_at dksX4_areTwo_0 7 rfl rfl)
theorem dX4_areTwo_8 : decode cX4_areTwo 8 = .ok (.iload 4, 2) := dk_21 4 (dk_at dksX4_areTwo_0 8 rfl rfl)
theorem dX4_areTwo_10 : decode cX4_areTwo 10 = .ok (.invokevirtual 474, 3) := dk_182 1 218 (dk_at dksX4_areTwo_0 10 rfl rfl)
theorem dX4_areTwo_13 : decode cX4_areTwo 13 = .ok (.ifCond .eq 18, 3) := dk_153 0 18 (dk_at dksX4_areTwo_0 13 rfl rfl)
theorem dX4_areTwo_16 : decode cX4_areTwo 16 = .ok (.aload_n 0, 1) := dk_42 (dk_at dksX4_areTwo_0 16 rfl rfl)
theorem dX4_areTwo_17 : decode cX4_areTwo 17 = .ok (.iload_n 2, 1) := dk_28 (dk_at dksX4_areTwo_0 17 rfl rfl)
theorem dX4_areTwo_18 : decode cX4_areTwo 18 = .ok (.iload_n 3, 1) := dk_29 (dk_at dksX4_areTwo_0 18 rfl rfl)
theorem dX4_areTwo_19 : decode cX4_areTwo 19 = .ok (.iload 4, 2) := dk_21 4 (dk_at dksX4_areTwo_0 19 rfl rfl)
theorem dX4_areTwo_21 : decode cX4_areTwo 21 = .ok (.invokevirtual 474, 3) := dk_182 1 218 (dk_at dksX4_areTwo_0 21 rfl rfl)
theorem dX4_areTwo_24 : decode cX4_areTwo 24 = .ok (.ifCond .eq 7, 3) := dk_153 0 7 (dk_at dksX4_areTwo_1 0 rfl rfl)
theorem dX4_areTwo_27 : decode cX4_areTwo 27 = .ok (.iconst 1, 1) := dk_4 (dk_at dksX4_areTwo_1 3 rfl rfl)
theorem dX4_areTwo_28 : decode cX4_areTwo 28 = .ok (.goto 4, 3) := dk_167 0 4 (dk_at dksX4_areTwo_1 4 rfl rfl)
theorem dX4_areTwo_31 : decode cX4_areTwo 31 = .ok (.iconst 0, 1) := dk_3 (dk_at dksX4_areTwo_1 7 rfl rfl)
theorem dX4_areTwo_32 : decode cX4_areTwo 32 = .ok (.ireturn, 1) := dk_172 (dk_at dksX4_areTwo_1 8 rfl rfl)
abbrev cX4_isLess : ByteArray := prog_21_method_79_code
def yX4_isLess : MethodName := ⟨RX4, "isLess", "(II)Z"⟩
def dkwX4_isLess_1 : List UInt8 := [164, 0, 7, 4, 167, 0, 4, 3, 172]
abbrev dktX4_isLess_1 : List UInt8 := dkwX4_isLess_1 ++ []
def dkwX4_isLess_0 : List UInt8 := [42, 180, 0, 191, 28, 46, 42, 180, 0, 191, 27, 46, 100, 42, 27, 182, 1, 221, 42, 28, 182, 1, 221, 96]
abbrev dktX4_isLess_0 : List UInt8 := dkwX4_isLess_0 ++ dktX4_isLess_1
theorem dksX4_isLess_0 : cX4_isLess.data.toList.drop 0 = dktX4_isLess_0 := by decide +kernel
theorem dksX4_isLess_1 : cX4_isLess.data.toList.drop 24 = dktX4_isLess_1 := dk_seg dksX4_isLess_0 24 rfl rfl
theorem dX4_isLess_0 : decode cX4_isLess 0 = .ok (.aload_n 0, 1) := dk_42 (dk_at dksX4_isLess_0 0 rfl rfl)
theorem dX4_isLess_1 : decode cX4_isLess 1 = .ok (.getfield 191, 3) := dk_180 0 191 (dk_at dksX4_isLess_0 1 rfl rfl)
theorem dX4_isLess_4 : decode cX4_isLess 4 = .ok (.iload_n 2, 1) := dk_28 (dk_at dksX4_isLess_0 4 rfl rfl)
theorem dX4_isLess_5 : decode cX4_isLess 5 = .ok (.iaload, 1) := dk_46 (dk_at dksX4_isLess_0 5 rfl rfl)
theorem dX4_isLess_6 : decode cX4_isLess 6 = .ok (.aload_n 0, 1) := dk_42 (dk_at dksX4_isLess_0 6 rfl rfl)
theorem dX4_isLess_7 : decode cX4_isLess 7 = .ok (.getfield 191, 3) := dk_180 0 191 (dk_at dksX4_isLess_0 7 rfl rfl)
theorem dX4_isLess_10 : decode cX4_isLess 10 = .ok (.iload_n 1, 1) := dk_27 (dk_at dksX4_isLess_0 10 rfl rfl)
theorem dX4_isLess_11 : decode cX4_isLess 11 = .ok (.iaload, 1) := dk_46 (dk_at dksX4_isLess_0 11 rfl rfl)
theorem dX4_isLess_12 : decode cX4_isLess 12 = .ok (.isub, 1) := dk_100 (dk_at dksX4_isLess_0 12 rfl rfl)
theorem dX4_isLess_13 : decode cX4_isLess 13 = .ok (.aload_n 0, 1) := dk_42 (dk_at dksX4_isLess_0 13 rfl rfl)
theorem dX4_isLess_14 : decode cX4_isLess 14 = .ok (.iload_n 1, 1) := dk_27 (dk_at dksX4_isLess_0 14 rfl rfl)
theorem dX4_isLess_15 : decode cX4_isLess 15 = .ok (.invokevirtual 477, 3) := dk_182 1 221 (dk_at dksX4_isLess_0 15 rfl rfl)
theorem dX4_isLess_18 : decode cX4_isLess 18 = .ok (.aload_n 0, 1) := dk_42 (dk_at dksX4_isLess_0 18 rfl rfl)
theorem dX4_isLess_19 : decode cX4_isLess 19 = .ok (.iload_n 2, 1) := dk_28 (dk_at dksX4_isLess_0 19 rfl rfl)
theorem dX4_isLess_20 : decode cX4_isLess 20 = .ok (.invokevirtual 477, 3) := dk_182 1 221 (dk_at dksX4_isLess_0 20 rfl rfl)
theorem dX4_isLess_23 : decode cX4_isLess 23 = .ok (.iadd, 1) := dk_96 (dk_at dksX4_isLess_0 23 rfl rfl)
theorem dX4_isLess_24 : decode cX4_isLess 24 = .ok (.if_icmp .le 7, 3) := dk_164 0 7 (dk_at dksX4_isLess_1 0 rfl rfl)
theorem dX4_isLess_27 : decode cX4_isLess 27 = .ok (.iconst 1, 1) := dk_4 (dk_at dksX4_isLess_1 3 rfl rfl)
theorem dX4_isLess_28 : decode cX4_isLess 28 = .ok (.goto 4, 3) := dk_167 0 4 (dk_at dksX4_isLess_1 4 rfl rfl)
theorem dX4_isLess_31 : decode cX4_isLess 31 = .ok (.iconst 0, 1) := dk_3 (dk_at dksX4_isLess_1 7 rfl rfl)
theorem dX4_isLess_32 : decode cX4_isLess 32 = .ok (.ireturn, 1) := dk_172 (dk_at dksX4_isLess_1 8 rfl rfl)
abbrev cX4_order : ByteArray := prog_21_method_82_code
def yX4_order : MethodName := ⟨RX4, "order", "(IIII)I"⟩
def dkwX4_order_15 : List UInt8 := [167, 0, 15, 21, 4, 154, 0, 8, 21, 5, 167, 0, 5, 21, 6, 172]
abbrev dktX4_order_15 : List UInt8 := dkwX4_order_15 ++ []
def dkwX4_order_14 : List UInt8 := [4, 21, 8, 120, 167, 0, 4, 3, 128, 54, 6, 132, 8, 1, 167, 255, 132, 21, 5, 154, 0, 7, 2]
abbrev dktX4_order_14 : List UInt8 := dkwX4_order_14 ++ dktX4_order_15
def dkwX4_order_13 : List UInt8 := [164, 0, 13, 42, 180, 0, 197, 21, 8, 46, 167, 0, 5, 21, 5, 54, 5, 21, 6, 21, 9, 153, 0, 10]
abbrev dktX4_order_13 : List UInt8 := dkwX4_order_13 ++ dktX4_order_14
def dkwX4_order_12 : List UInt8 := [4, 167, 0, 4, 3, 54, 9, 132, 10, 1, 167, 255, 211, 42, 180, 0, 197, 21, 8, 46, 21, 5]
abbrev dktX4_order_12 : List UInt8 := dkwX4_order_12 ++ dktX4_order_13
def dkwX4_order_11 : List UInt8 := [153, 0, 37, 42, 180, 0, 197, 21, 10, 46, 153, 0, 14, 42, 21, 8, 21, 10, 182, 1, 228, 154, 0, 7]
abbrev dktX4_order_11 : List UInt8 := dkwX4_order_11 ++ dktX4_order_12
def dkwX4_order_10 : List UInt8 := [158, 0, 7, 4, 167, 0, 4, 3, 54, 9, 3, 54, 10, 21, 10, 42, 180, 1, 110, 162, 0, 42, 21, 9]
abbrev dktX4_order_10 : List UInt8 := dkwX4_order_10 ++ dktX4_order_11
def dkwX4_order_9 : List UInt8 := [167, 255, 145, 3, 54, 8, 21, 8, 42, 180, 1, 110, 162, 0, 121, 42, 180, 0, 197, 21, 8, 46]
abbrev dktX4_order_9 : List UInt8 := dkwX4_order_9 ++ dktX4_order_10
def dkwX4_order_8 : List UInt8 := [180, 0, 197, 21, 8, 46, 4, 96, 79, 4, 54, 7, 132, 9, 1, 167, 255, 177, 132, 8, 1, 167, 255, 159]
abbrev dktX4_order_8 : List UInt8 := dkwX4_order_8 ++ dktX4_order_9
def dkwX4_order_7 : List UInt8 := [42, 180, 0, 197, 21, 9, 46, 42, 180, 0, 197, 21, 8, 46, 163, 0, 22, 42, 180, 0, 197, 21, 9, 42]
abbrev dktX4_order_7 : List UInt8 := dkwX4_order_7 ++ dktX4_order_8
def dkwX4_order_6 : List UInt8 := [158, 0, 60, 42, 180, 0, 197, 21, 9, 46, 158, 0, 50, 42, 21, 8, 21, 9, 182, 1, 228, 153, 0, 39]
abbrev dktX4_order_6 : List UInt8 := dkwX4_order_6 ++ dktX4_order_7
def dkwX4_order_5 : List UInt8 := [162, 0, 94, 3, 54, 9, 21, 9, 42, 180, 1, 110, 162, 0, 76, 42, 180, 0, 197, 21, 8, 46]
abbrev dktX4_order_5 : List UInt8 := dkwX4_order_5 ++ dktX4_order_6
def dkwX4_order_4 : List UInt8 := [167, 255, 211, 4, 54, 7, 21, 7, 153, 0, 112, 3, 54, 7, 3, 54, 8, 21, 8, 42, 180, 1, 110]
abbrev dktX4_order_4 : List UInt8 := dkwX4_order_4 ++ dktX4_order_5
def dkwX4_order_3 : List UInt8 := [27, 160, 0, 17, 42, 180, 0, 194, 21, 7, 46, 158, 0, 7, 4, 167, 0, 4, 3, 79, 132, 7, 1]
abbrev dktX4_order_3 : List UInt8 := dkwX4_order_3 ++ dktX4_order_4
def dkwX4_order_2 : List UInt8 := [54, 7, 21, 7, 42, 180, 1, 110, 162, 0, 42, 42, 180, 0, 197, 21, 7, 42, 180, 0, 115, 21, 7, 46]
abbrev dktX4_order_2 : List UInt8 := dkwX4_order_2 ++ dktX4_order_3
def dkwX4_order_1 : List UInt8 := [3, 4, 184, 1, 102, 154, 0, 5, 2, 172, 42, 28, 29, 182, 1, 215, 3, 54, 5, 3, 54, 6, 3]
abbrev dktX4_order_1 : List UInt8 := dkwX4_order_1 ++ dktX4_order_2
def dkwX4_order_0 : List UInt8 := [42, 3, 181, 0, 1, 27, 3, 6, 184, 1, 102, 153, 0, 21, 28, 29, 184, 1, 212, 153, 0, 13, 21, 4]
abbrev dktX4_order_0 : List UInt8 := dkwX4_order_0 ++ dktX4_order_1
theorem dksX4_order_0 : cX4_order.data.toList.drop 0 = dktX4_order_0 := by decide +kernel
theorem dksX4_order_1 : cX4_order.data.toList.drop 24 = dktX4_order_1 := dk_seg dksX4_order_0 24 rfl rfl
theorem dksX4_order_2 : cX4_order.data.toList.drop 47 = dktX4_order_2 := dk_seg dksX4_order_1 23 rfl rfl
theorem dksX4_order_3 : cX4_order.data.toList.drop 71 = dktX4_order_3 := dk_seg dksX4_order_2 24 rfl rfl
theorem dksX4_order_4 : cX4_order.data.toList.drop 94 = dktX4_order_4 := dk_seg dksX4_order_3 23 rfl rfl
theorem dksX4_order_5 : cX4_order.data.toList.drop 117 = dktX4_order_5 := dk_seg dksX4_order_4 23 rfl rfl
theorem dksX4_order_6 : cX4_order.data.toList.drop 139 = dktX4_order_6 := dk_seg dksX4_order_5 22 rfl rfl
theorem dksX4_order_7 : cX4_order.data.toList.drop 163 = dktX4_order_7 := dk_seg dksX4_order_6 24 rfl rfl
theorem dksX4_order_8 : cX4_order.data.toList.drop 187 = dktX4_order_8 := dk_seg dksX4_order_7 24 rfl rfl
theorem dksX4_order_9 : cX4_order.data.toList.drop 211 = dktX4_order_9 := dk_seg dksX4_order_8 24 rfl rfl
theorem dksX4_order_10 : cX4_order.data.toList.drop 233 = dktX4_order_10 := dk_seg dksX4_order_9 22 rfl rfl
theorem dksX4_order_11 : cX4_order.data.toList.drop 257 = dktX4_order_11 := dk_seg dksX4_order_10 24 rfl rfl
theorem dksX4_order_12 : cX4_order.data.toList.drop 281 = dktX4_order_12 := dk_seg dksX4_order_11 24 rfl rfl
theorem dksX4_order_13 : cX4_order.data.toList.drop 303 = dktX4_order_13 := dk_seg dksX4_order_12 22 rfl rfl
theorem dksX4_order_14 : cX4_order.data.toList.drop 327 = dktX4_order_14 := dk_seg dksX4_order_13 24 rfl rfl
theorem dksX4_order_15 : cX4_order.data.toList.drop 350 = dktX4_order_15 := dk_seg dksX4_order_14 23 rfl rfl
theorem dX4_order_0 : decode cX4_order 0 = .ok (.aload_n 0, 1) := dk_42 (dk_at dksX4_order_0 0 rfl rfl)
theorem dX4_order_1 : decode cX4_order 1 = .ok (.iconst 0, 1) := dk_3 (dk_at dksX4_order_0 1 rfl rfl)
theorem dX4_order_2 : decode cX4_order 2 = .ok (.putfield 1, 3) := dk_181 0 1 (dk_at dksX4_order_0 2 rfl rfl)
theorem dX4_order_5 : decode cX4_order 5 = .ok (.iload_n 1, 1) := dk_27 (dk_at dksX4_order_0 5 rfl rfl)
theorem dX4_order_6 : decode cX4_order 6 = .ok (.iconst 0, 1) := dk_3 (dk_at dksX4_order_0 6 rfl rfl)
theorem dX4_order_7 : decode cX4_order 7 = .ok (.iconst 3, 1) := dk_6 (dk_at dksX4_order_0 7 rfl rfl)
theorem dX4_order_8 : decode cX4_order 8 = .ok (.invokestatic 358, 3) := dk_184 1 102 (dk_at dksX4_order_0 8 rfl rfl)
theorem dX4_order_11 : decode cX4_order 11 = .ok (.ifCond .eq 21, 3) := dk_153 0 21 (dk_at dksX4_order_0 11 rfl rfl)
theorem dX4_order_14 : decode cX4_order 14 = .ok (.iload_n 2, 1) := dk_28 (dk_at dksX4_order_0 14 rfl rfl)
theorem dX4_order_15 : decode cX4_order 15 = .ok (.iload_n 3, 1) := dk_29 (dk_at dksX4_order_0 15 rfl rfl)
theorem dX4_order_16 : decode cX4_order 16 = .ok (.invokestatic 468, 3) := dk_184 1 212 (dk_at dksX4_order_0 16 rfl rfl)
theorem dX4_order_19 : decode cX4_order 19 = .ok (.ifCond .eq 13, 3) := dk_153 0 13 (dk_at dksX4_order_0 19 rfl rfl)
theorem dX4_order_22 : decode cX4_order 22 = .ok (.iload 4, 2) := dk_21 4 (dk_at dksX4_order_0 22 rfl rfl)
theorem dX4_order_24 : decode cX4_order 24 = .ok (.iconst 0, 1) := dk_3 (dk_at dksX4_order_1 0 rfl rfl)
theorem dX4_order_25 : decode cX4_order 25 = .ok (.iconst 1, 1) := dk_4 (dk_at dksX4_order_1 1 rfl rfl)
theorem dX4_order_26 : decode cX4_order 26 = .ok (.invokestatic 358, 3) := dk_184 1 102 (dk_at dksX4_order_1 2 rfl rfl)
theorem dX4_order_29 : decode cX4_order 29 = .ok (.ifCond .ne 5, 3) := dk_154 0 5 (dk_at dksX4_order_1 5 rfl rfl)
theorem dX4_order_32 : decode cX4_order 32 = .ok (.iconst (-1), 1) := dk_2 (dk_at dksX4_order_1 8 rfl rfl)
theorem dX4_order_33 : decode cX4_order 33 = .ok (.ireturn, 1) := dk_172 (dk_at dksX4_order_1 9 rfl rfl)
theorem dX4_order_34 : decode cX4_order 34 = .ok (.aload_n 0, 1) := dk_42 (dk_at dksX4_order_1 10 rfl rfl)
theorem dX4_order_35 : decode cX4_order 35 = .ok (.iload_n 2, 1) := dk_28 (dk_at dksX4_order_1 11 rfl rfl)
theorem dX4_order_36 : decode cX4_order 36 = .ok (.iload_n 3, 1) := dk_29 (dk_at dksX4_order_1 12 rfl rfl)
theorem dX4_order_37 : decode cX4_order 37 = .ok (.invokevirtual 471, 3) := dk_182 1 215 (dk_at dksX4_order_1 13 rfl rfl)
theorem dX4_order_40 : decode cX4_order 40 = .ok (.iconst 0, 1) := dk_3 (dk_at dksX4_order_1 16 rfl rfl)
theorem dX4_order_41 : decode cX4_order 41 = .ok (.istore 5, 2) := dk_54 5 (dk_at dksX4_order_1 17 rfl rfl)
theorem dX4_order_43 : decode cX4_order 43 = .ok (.iconst 0, 1) := dk_3 (dk_at dksX4_order_1 19 rfl rfl)
theorem dX4_order_44 : decode cX4_order 44 = .ok (.istore 6, 2) := dk_54 6 (dk_at dksX4_order_1 20 rfl rfl)
theorem dX4_order_46 : decode cX4_order 46 = .ok (.iconst 0, 1) := dk_3 (dk_at dksX4_order_1 22 rfl rfl)
theorem dX4_order_47 : decode cX4_order 47 = .ok (.istore 7, 2) := dk_54 7 (dk_at dksX4_order_2 0 rfl rfl)
theorem dX4_order_49 : decode cX4_order 49 = .ok (.iload 7, 2) := dk_21 7 (dk_at dksX4_order_2 2 rfl rfl)
theorem dX4_order_51 : decode cX4_order 51 = .ok (.aload_n 0, 1) := dk_42 (dk_at dksX4_order_2 4 rfl rfl)
theorem dX4_order_52 : decode cX4_order 52 = .ok (.getfield 366, 3) := dk_180 1 110 (dk_at dksX4_order_2 5 rfl rfl)
theorem dX4_order_55 : decode cX4_order 55 = .ok (.if_icmp .ge 42, 3) := dk_162 0 42 (dk_at dksX4_order_2 8 rfl rfl)
theorem dX4_order_58 : decode cX4_order 58 = .ok (.aload_n 0, 1) := dk_42 (dk_at dksX4_order_2 11 rfl rfl)
theorem dX4_order_59 : decode cX4_order 59 = .ok (.getfield 197, 3) := dk_180 0 197 (dk_at dksX4_order_2 12 rfl rfl)
theorem dX4_order_62 : decode cX4_order 62 = .ok (.iload 7, 2) := dk_21 7 (dk_at dksX4_order_2 15 rfl rfl)
theorem dX4_order_64 : decode cX4_order 64 = .ok (.aload_n 0, 1) := dk_42 (dk_at dksX4_order_2 17 rfl rfl)
theorem dX4_order_65 : decode cX4_order 65 = .ok (.getfield 115, 3) := dk_180 0 115 (dk_at dksX4_order_2 18 rfl rfl)
theorem dX4_order_68 : decode cX4_order 68 = .ok (.iload 7, 2) := dk_21 7 (dk_at dksX4_order_2 21 rfl rfl)
theorem dX4_order_70 : decode cX4_order 70 = .ok (.iaload, 1) := dk_46 (dk_at dksX4_order_2 23 rfl rfl)
theorem dX4_order_71 : decode cX4_order 71 = .ok (.iload_n 1, 1) := dk_27 (dk_at dksX4_order_3 0 rfl rfl)
theorem dX4_order_72 : decode cX4_order 72 = .ok (.if_icmp .ne 17, 3) := dk_160 0 17 (dk_at dksX4_order_3 1 rfl rfl)
theorem dX4_order_75 : decode cX4_order 75 = .ok (.aload_n 0, 1) := dk_42 (dk_at dksX4_order_3 4 rfl rfl)
theorem dX4_order_76 : decode cX4_order 76 = .ok (.getfield 194, 3) := dk_180 0 194 (dk_at dksX4_order_3 5 rfl rfl)
theorem dX4_order_79 : decode cX4_order 79 = .ok (.iload 7, 2) := dk_21 7 (dk_at dksX4_order_3 8 rfl rfl)
theorem dX4_order_81 : decode cX4_order 81 = .ok (.iaload, 1) := dk_46 (dk_at dksX4_order_3 10 rfl rfl)
theorem dX4_order_82 : decode cX4_order 82 = .ok (.ifCond .le 7, 3) := dk_158 0 7 (dk_at dksX4_order_3 11 rfl rfl)
theorem dX4_order_85 : decode cX4_order 85 = .ok (.iconst 1, 1) := dk_4 (dk_at dksX4_order_3 14 rfl rfl)
theorem dX4_order_86 : decode cX4_order 86 = .ok (.goto 4, 3) := dk_167 0 4 (dk_at dksX4_order_3 15 rfl rfl)
theorem dX4_order_89 : decode cX4_order 89 = .ok (.iconst 0, 1) := dk_3 (dk_at dksX4_order_3 18 rfl rfl)
theorem dX4_order_90 : decode cX4_order 90 = .ok (.iastore, 1) := dk_79 (dk_at dksX4_order_3 19 rfl rfl)
theorem dX4_order_91 : decode cX4_order 91 = .ok (.iinc 7 1, 3) := dk_132 7 1 (dk_at dksX4_order_3 20 rfl rfl)
theorem dX4_order_94 : decode cX4_order 94 = .ok (.goto (-45), 3) := dk_167 255 211 (dk_at dksX4_order_4 0 rfl rfl)
theorem dX4_order_97 : decode cX4_order 97 = .ok (.iconst 1, 1) := dk_4 (dk_at dksX4_order_4 3 rfl rfl)
theorem dX4_order_98 : decode cX4_order 98 = .ok (.istore 7, 2) := dk_54 7 (dk_at dksX4_order_4 4 rfl rfl)
theorem dX4_order_100 : decode cX4_order 100 = .ok (.iload 7, 2) := dk_21 7 (dk_at dksX4_order_4 6 rfl rfl)
theorem dX4_order_102 : decode cX4_order 102 = .ok (.ifCond .eq 112, 3) := dk_153 0 112 (dk_at dksX4_order_4 8 rfl rfl)
theorem dX4_order_105 : decode cX4_order 105 = .ok (.iconst 0, 1) := dk_3 (dk_at dksX4_order_4 11 rfl rfl)
theorem dX4_order_106 : decode cX4_order 106 = .ok (.istore 7, 2) := dk_54 7 (dk_at dksX4_order_4 12 rfl rfl)
theorem dX4_order_108 : decode cX4_order 108 = .ok (.iconst 0, 1) := dk_3 (dk_at dksX4_order_4 14 rfl rfl)
theorem dX4_order_109 : decode cX4_order 109 = .ok (.istore 8, 2) := dk_54 8 (dk_at dksX4_order_4 15 rfl rfl)
theorem dX4_order_111 : decode cX4_order 111 = .ok (.iload 8, 2) := dk_21 8 (dk_at dksX4_order_4 17 rfl rfl)
theorem dX4_order_113 : decode cX4_order 113 = .ok (.aload_n 0, 1) := dk_42 (dk_at dksX4_order_4 19 rfl rfl)
theorem dX4_order_114 : decode cX4_order 114 = .ok (.getfield 366, 3) := dk_180 1 110 (dk_at dksX4_order_4 20 rfl rfl)
theorem dX4_order_117 : decode cX4_order 117 = .ok (.if_icmp .ge 94, 3) := dk_162 0 94 (dk_at dksX4_order_5 0 rfl rfl)
theorem dX4_order_120 : decode cX4_order 120 = .ok (.iconst 0, 1) := dk_3 (dk_at dksX4_order_5 3 rfl rfl)
theorem dX4_order_121 : decode cX4_order 121 = .ok (.istore 9, 2) := dk_54 9 (dk_at dksX4_order_5 4 rfl rfl)
theorem dX4_order_123 : decode cX4_order 123 = .ok (.iload 9, 2) := dk_21 9 (dk_at dksX4_order_5 6 rfl rfl)
theorem dX4_order_125 : decode cX4_order 125 = .ok (.aload_n 0, 1) := dk_42 (dk_at dksX4_order_5 8 rfl rfl)
theorem dX4_order_126 : decode cX4_order 126 = .ok (.getfield 366, 3) := dk_180 1 110 (dk_at dksX4_order_5 9 rfl rfl)
theorem dX4_order_129 : decode cX4_order 129 = .ok (.if_icmp .ge 76, 3) := dk_162 0 76 (dk_at dksX4_order_5 12 rfl rfl)
theorem dX4_order_132 : decode cX4_order 132 = .ok (.aload_n 0, 1) := dk_42 (dk_at dksX4_order_5 15 rfl rfl)
theorem dX4_order_133 : decode cX4_order 133 = .ok (.getfield 197, 3) := dk_180 0 197 (dk_at dksX4_order_5 16 rfl rfl)
theorem dX4_order_136 : decode cX4_order 136 = .ok (.iload 8, 2) := dk_21 8 (dk_at dksX4_order_5 19 rfl rfl)
theorem dX4_order_138 : decode cX4_order 138 = .ok (.iaload, 1) := dk_46 (dk_at dksX4_order_5 21 rfl rfl)
theorem dX4_order_139 : decode cX4_order 139 = .ok (.ifCond .le 60, 3) := dk_158 0 60 (dk_at dksX4_order_6 0 rfl rfl)
theorem dX4_order_142 : decode cX4_order 142 = .ok (.aload_n 0, 1) := dk_42 (dk_at dksX4_order_6 3 rfl rfl)
theorem dX4_order_143 : decode cX4_order 143 = .ok (.getfield 197, 3) := dk_180 0 197 (dk_at dksX4_order_6 4 rfl rfl)
theorem dX4_order_146 : decode cX4_order 146 = .ok (.iload 9, 2) := dk_21 9 (dk_at dksX4_order_6 7 rfl rfl)
theorem dX4_order_148 : decode cX4_order 148 = .ok (.iaload, 1) := dk_46 (dk_at dksX4_order_6 9 rfl rfl)
theorem dX4_order_149 : decode cX4_order 149 = .ok (.ifCond .le 50, 3) := dk_158 0 50 (dk_at dksX4_order_6 10 rfl rfl)
theorem dX4_order_152 : decode cX4_order 152 = .ok (.aload_n 0, 1) := dk_42 (dk_at dksX4_order_6 13 rfl rfl)
theorem dX4_order_153 : decode cX4_order 153 = .ok (.iload 8, 2) := dk_21 8 (dk_at dksX4_order_6 14 rfl rfl)
theorem dX4_order_155 : decode cX4_order 155 = .ok (.iload 9, 2) := dk_21 9 (dk_at dksX4_order_6 16 rfl rfl)
theorem dX4_order_157 : decode cX4_order 157 = .ok (.invokevirtual 484, 3) := dk_182 1 228 (dk_at dksX4_order_6 18 rfl rfl)
theorem dX4_order_160 : decode cX4_order 160 = .ok (.ifCond .eq 39, 3) := dk_153 0 39 (dk_at dksX4_order_6 21 rfl rfl)
theorem dX4_order_163 : decode cX4_order 163 = .ok (.aload_n 0, 1) := dk_42 (dk_at dksX4_order_7 0 rfl rfl)
theorem dX4_order_164 : decode cX4_order 164 = .ok (.getfield 197, 3) := dk_180 0 197 (dk_at dksX4_order_7 1 rfl rfl)
theorem dX4_order_167 : decode cX4_order 167 = .ok (.iload 9, 2) := dk_21 9 (dk_at dksX4_order_7 4 rfl rfl)
theorem dX4_order_169 : decode cX4_order 169 = .ok (.iaload, 1) := dk_46 (dk_at dksX4_order_7 6 rfl rfl)
theorem dX4_order_170 : decode cX4_order 170 = .ok (.aload_n 0, 1) := dk_42 (dk_at dksX4_order_7 7 rfl rfl)
theorem dX4_order_171 : decode cX4_order 171 = .ok (.getfield 197, 3) := dk_180 0 197 (dk_at dksX4_order_7 8 rfl rfl)
theorem dX4_order_174 : decode cX4_order 174 = .ok (.iload 8, 2) := dk_21 8 (dk_at dksX4_order_7 11 rfl rfl)
theorem dX4_order_176 : decode cX4_order 176 = .ok (.iaload, 1) := dk_46 (dk_at dksX4_order_7 13 rfl rfl)
theorem dX4_order_177 : decode cX4_order 177 = .ok (.if_icmp .gt 22, 3) := dk_163 0 22 (dk_at dksX4_order_7 14 rfl rfl)
theorem dX4_order_180 : decode cX4_order 180 = .ok (.aload_n 0, 1) := dk_42 (dk_at dksX4_order_7 17 rfl rfl)
theorem dX4_order_181 : decode cX4_order 181 = .ok (.getfield 197, 3) := dk_180 0 197 (dk_at dksX4_order_7 18 rfl rfl)
theorem dX4_order_184 : decode cX4_order 184 = .ok (.iload 9, 2) := dk_21 9 (dk_at dksX4_order_7 21 rfl rfl)
theorem dX4_order_186 : decode cX4_order 186 = .ok (.aload_n 0, 1) := dk_42 (dk_at dksX4_order_7 23 rfl rfl)
theorem dX4_order_187 : decode cX4_order 187 = .ok (.getfield 197, 3) := dk_180 0 197 (dk_at dksX4_order_8 0 rfl rfl)
theorem dX4_order_190 : decode cX4_order 190 = .ok (.iload 8, 2) := dk_21 8 (dk_at dksX4_order_8 3 rfl rfl)
theorem dX4_order_192 : decode cX4_order 192 = .ok (.iaload, 1) := dk_46 (dk_at dksX4_order_8 5 rfl rfl)
theorem dX4_order_193 : decode cX4_order 193 = .ok (.iconst 1, 1) := dk_4 (dk_at dksX4_order_8 6 rfl rfl)
theorem dX4_order_194 : decode cX4_order 194 = .ok (.iadd, 1) := dk_96 (dk_at dksX4_order_8 7 rfl rfl)
theorem dX4_order_195 : decode cX4_order 195 = .ok (.iastore, 1) := dk_79 (dk_at dksX4_order_8 8 rfl rfl)
theorem dX4_order_196 : decode cX4_order 196 = .ok (.iconst 1, 1) := dk_4 (dk_at dksX4_order_8 9 rfl rfl)
theorem dX4_order_197 : decode cX4_order 197 = .ok (.istore 7, 2) := dk_54 7 (dk_at dksX4_order_8 10 rfl rfl)
theorem dX4_order_199 : decode cX4_order 199 = .ok (.iinc 9 1, 3) := dk_132 9 1 (dk_at dksX4_order_8 12 rfl rfl)
theorem dX4_order_202 : decode cX4_order 202 = .ok (.goto (-79), 3) := dk_167 255 177 (dk_at dksX4_order_8 15 rfl rfl)
theorem dX4_order_205 : decode cX4_order 205 = .ok (.iinc 8 1, 3) := dk_132 8 1 (dk_at dksX4_order_8 18 rfl rfl)
theorem dX4_order_208 : decode cX4_order 208 = .ok (.goto (-97), 3) := dk_167 255 159 (dk_at dksX4_order_8 21 rfl rfl)
theorem dX4_order_211 : decode cX4_order 211 = .ok (.goto (-111), 3) := dk_167 255 145 (dk_at dksX4_order_9 0 rfl rfl)
theorem dX4_order_214 : decode cX4_order 214 = .ok (.iconst 0, 1) := dk_3 (dk_at dksX4_order_9 3 rfl rfl)
theorem dX4_order_215 : decode cX4_order 215 = .ok (.istore 8, 2) := dk_54 8 (dk_at dksX4_order_9 4 rfl rfl)
theorem dX4_order_217 : decode cX4_order 217 = .ok (.iload 8, 2) := dk_21 8 (dk_at dksX4_order_9 6 rfl rfl)
theorem dX4_order_219 : decode cX4_order 219 = .ok (.aload_n 0, 1) := dk_42 (dk_at dksX4_order_9 8 rfl rfl)
theorem dX4_order_220 : decode cX4_order 220 = .ok (.getfield 366, 3) := dk_180 1 110 (dk_at dksX4_order_9 9 rfl rfl)
theorem dX4_order_223 : decode cX4_order 223 = .ok (.if_icmp .ge 121, 3) := dk_162 0 121 (dk_at dksX4_order_9 12 rfl rfl)
theorem dX4_order_226 : decode cX4_order 226 = .ok (.aload_n 0, 1) := dk_42 (dk_at dksX4_order_9 15 rfl rfl)
theorem dX4_order_227 : decode cX4_order 227 = .ok (.getfield 197, 3) := dk_180 0 197 (dk_at dksX4_order_9 16 rfl rfl)
theorem dX4_order_230 : decode cX4_order 230 = .ok (.iload 8, 2) := dk_21 8 (dk_at dksX4_order_9 19 rfl rfl)
theorem dX4_order_232 : decode cX4_order 232 = .ok (.iaload, 1) := dk_46 (dk_at dksX4_order_9 21 rfl rfl)
theorem dX4_order_233 : decode cX4_order 233 = .ok (.ifCond .le 7, 3) := dk_158 0 7 (dk_at dksX4_order_10 0 rfl rfl)
theorem dX4_order_236 : decode cX4_order 236 = .ok (.iconst 1, 1) := dk_4 (dk_at dksX4_order_10 3 rfl rfl)
theorem dX4_order_237 : decode cX4_order 237 = .ok (.goto 4, 3) := dk_167 0 4 (dk_at dksX4_order_10 4 rfl rfl)
theorem dX4_order_240 : decode cX4_order 240 = .ok (.iconst 0, 1) := dk_3 (dk_at dksX4_order_10 7 rfl rfl)
theorem dX4_order_241 : decode cX4_order 241 = .ok (.istore 9, 2) := dk_54 9 (dk_at dksX4_order_10 8 rfl rfl)
theorem dX4_order_243 : decode cX4_order 243 = .ok (.iconst 0, 1) := dk_3 (dk_at dksX4_order_10 10 rfl rfl)
theorem dX4_order_244 : decode cX4_order 244 = .ok (.istore 10, 2) := dk_54 10 (dk_at dksX4_order_10 11 rfl rfl)
theorem dX4_order_246 : decode cX4_order 246 = .ok (.iload 10, 2) := dk_21 10 (dk_at dksX4_order_10 13 rfl rfl)
theorem dX4_order_248 : decode cX4_order 248 = .ok (.aload_n 0, 1) := dk_42 (dk_at dksX4_order_10 15 rfl rfl)
theorem dX4_order_249 : decode cX4_order 249 = .ok (.getfield 366, 3) := dk_180 1 110 (dk_at dksX4_order_10 16 rfl rfl)
theorem dX4_order_252 : decode cX4_order 252 = .ok (.if_icmp .ge 42, 3) := dk_162 0 42 (dk_at dksX4_order_10 19 rfl rfl)
theorem dX4_order_255 : decode cX4_order 255 = .ok (.iload 9, 2) := dk_21 9 (dk_at dksX4_order_10 22 rfl rfl)
theorem dX4_order_257 : decode cX4_order 257 = .ok (.ifCond .eq 37, 3) := dk_153 0 37 (dk_at dksX4_order_11 0 rfl rfl)
theorem dX4_order_260 : decode cX4_order 260 = .ok (.aload_n 0, 1) := dk_42 (dk_at dksX4_order_11 3 rfl rfl)
theorem dX4_order_261 : decode cX4_order 261 = .ok (.getfield 197, 3) := dk_180 0 197 (dk_at dksX4_order_11 4 rfl rfl)
theorem dX4_order_264 : decode cX4_order 264 = .ok (.iload 10, 2) := dk_21 10 (dk_at dksX4_order_11 7 rfl rfl)
theorem dX4_order_266 : decode cX4_order 266 = .ok (.iaload, 1) := dk_46 (dk_at dksX4_order_11 9 rfl rfl)
theorem dX4_order_267 : decode cX4_order 267 = .ok (.ifCond .eq 14, 3) := dk_153 0 14 (dk_at dksX4_order_11 10 rfl rfl)
theorem dX4_order_270 : decode cX4_order 270 = .ok (.aload_n 0, 1) := dk_42 (dk_at dksX4_order_11 13 rfl rfl)
theorem dX4_order_271 : decode cX4_order 271 = .ok (.iload 8, 2) := dk_21 8 (dk_at dksX4_order_11 14 rfl rfl)
theorem dX4_order_273 : decode cX4_order 273 = .ok (.iload 10, 2) := dk_21 10 (dk_at dksX4_order_11 16 rfl rfl)
theorem dX4_order_275 : decode cX4_order 275 = .ok (.invokevirtual 484, 3) := dk_182 1 228 (dk_at dksX4_order_11 18 rfl rfl)
theorem dX4_order_278 : decode cX4_order 278 = .ok (.ifCond .ne 7, 3) := dk_154 0 7 (dk_at dksX4_order_11 21 rfl rfl)
theorem dX4_order_281 : decode cX4_order 281 = .ok (.iconst 1, 1) := dk_4 (dk_at dksX4_order_12 0 rfl rfl)
theorem dX4_order_282 : decode cX4_order 282 = .ok (.goto 4, 3) := dk_167 0 4 (dk_at dksX4_order_12 1 rfl rfl)
theorem dX4_order_285 : decode cX4_order 285 = .ok (.iconst 0, 1) := dk_3 (dk_at dksX4_order_12 4 rfl rfl)
theorem dX4_order_286 : decode cX4_order 286 = .ok (.istore 9, 2) := dk_54 9 (dk_at dksX4_order_12 5 rfl rfl)
theorem dX4_order_288 : decode cX4_order 288 = .ok (.iinc 10 1, 3) := dk_132 10 1 (dk_at dksX4_order_12 7 rfl rfl)
theorem dX4_order_291 : decode cX4_order 291 = .ok (.goto (-45), 3) := dk_167 255 211 (dk_at dksX4_order_12 10 rfl rfl)
theorem dX4_order_294 : decode cX4_order 294 = .ok (.aload_n 0, 1) := dk_42 (dk_at dksX4_order_12 13 rfl rfl)
theorem dX4_order_295 : decode cX4_order 295 = .ok (.getfield 197, 3) := dk_180 0 197 (dk_at dksX4_order_12 14 rfl rfl)
theorem dX4_order_298 : decode cX4_order 298 = .ok (.iload 8, 2) := dk_21 8 (dk_at dksX4_order_12 17 rfl rfl)
theorem dX4_order_300 : decode cX4_order 300 = .ok (.iaload, 1) := dk_46 (dk_at dksX4_order_12 19 rfl rfl)
theorem dX4_order_301 : decode cX4_order 301 = .ok (.iload 5, 2) := dk_21 5 (dk_at dksX4_order_12 20 rfl rfl)
theorem dX4_order_303 : decode cX4_order 303 = .ok (.if_icmp .le 13, 3) := dk_164 0 13 (dk_at dksX4_order_13 0 rfl rfl)
theorem dX4_order_306 : decode cX4_order 306 = .ok (.aload_n 0, 1) := dk_42 (dk_at dksX4_order_13 3 rfl rfl)
theorem dX4_order_307 : decode cX4_order 307 = .ok (.getfield 197, 3) := dk_180 0 197 (dk_at dksX4_order_13 4 rfl rfl)
theorem dX4_order_310 : decode cX4_order 310 = .ok (.iload 8, 2) := dk_21 8 (dk_at dksX4_order_13 7 rfl rfl)
theorem dX4_order_312 : decode cX4_order 312 = .ok (.iaload, 1) := dk_46 (dk_at dksX4_order_13 9 rfl rfl)
theorem dX4_order_313 : decode cX4_order 313 = .ok (.goto 5, 3) := dk_167 0 5 (dk_at dksX4_order_13 10 rfl rfl)
theorem dX4_order_316 : decode cX4_order 316 = .ok (.iload 5, 2) := dk_21 5 (dk_at dksX4_order_13 13 rfl rfl)
theorem dX4_order_318 : decode cX4_order 318 = .ok (.istore 5, 2) := dk_54 5 (dk_at dksX4_order_13 15 rfl rfl)
theorem dX4_order_320 : decode cX4_order 320 = .ok (.iload 6, 2) := dk_21 6 (dk_at dksX4_order_13 17 rfl rfl)
theorem dX4_order_322 : decode cX4_order 322 = .ok (.iload 9, 2) := dk_21 9 (dk_at dksX4_order_13 19 rfl rfl)
theorem dX4_order_324 : decode cX4_order 324 = .ok (.ifCond .eq 10, 3) := dk_153 0 10 (dk_at dksX4_order_13 21 rfl rfl)
theorem dX4_order_327 : decode cX4_order 327 = .ok (.iconst 1, 1) := dk_4 (dk_at dksX4_order_14 0 rfl rfl)
theorem dX4_order_328 : decode cX4_order 328 = .ok (.iload 8, 2) := dk_21 8 (dk_at dksX4_order_14 1 rfl rfl)
theorem dX4_order_330 : decode cX4_order 330 = .ok (.ishl, 1) := dk_120 (dk_at dksX4_order_14 3 rfl rfl)
theorem dX4_order_331 : decode cX4_order 331 = .ok (.goto 4, 3) := dk_167 0 4 (dk_at dksX4_order_14 4 rfl rfl)
theorem dX4_order_334 : decode cX4_order 334 = .ok (.iconst 0, 1) := dk_3 (dk_at dksX4_order_14 7 rfl rfl)
theorem dX4_order_335 : decode cX4_order 335 = .ok (.ior, 1) := dk_128 (dk_at dksX4_order_14 8 rfl rfl)
theorem dX4_order_336 : decode cX4_order 336 = .ok (.istore 6, 2) := dk_54 6 (dk_at dksX4_order_14 9 rfl rfl)
theorem dX4_order_338 : decode cX4_order 338 = .ok (.iinc 8 1, 3) := dk_132 8 1 (dk_at dksX4_order_14 11 rfl rfl)
theorem dX4_order_341 : decode cX4_order 341 = .ok (.goto (-124), 3) := dk_167 255 132 (dk_at dksX4_order_14 14 rfl rfl)
theorem dX4_order_344 : decode cX4_order 344 = .ok (.iload 5, 2) := dk_21 5 (dk_at dksX4_order_14 17 rfl rfl)
theorem dX4_order_346 : decode cX4_order 346 = .ok (.ifCond .ne 7, 3) := dk_154 0 7 (dk_at dksX4_order_14 19 rfl rfl)
theorem dX4_order_349 : decode cX4_order 349 = .ok (.iconst (-1), 1) := dk_2 (dk_at dksX4_order_14 22 rfl rfl)
theorem dX4_order_350 : decode cX4_order 350 = .ok (.goto 15, 3) := dk_167 0 15 (dk_at dksX4_order_15 0 rfl rfl)
theorem dX4_order_353 : decode cX4_order 353 = .ok (.iload 4, 2) := dk_21 4 (dk_at dksX4_order_15 3 rfl rfl)
theorem dX4_order_355 : decode cX4_order 355 = .ok (.ifCond .ne 8, 3) := dk_154 0 8 (dk_at dksX4_order_15 5 rfl rfl)
theorem dX4_order_358 : decode cX4_order 358 = .ok (.iload 5, 2) := dk_21 5 (dk_at dksX4_order_15 8 rfl rfl)
theorem dX4_order_360 : decode cX4_order 360 = .ok (.goto 5, 3) := dk_167 0 5 (dk_at dksX4_order_15 10 rfl rfl)
theorem dX4_order_363 : decode cX4_order 363 = .ok (.iload 6, 2) := dk_21 6 (dk_at dksX4_order_15 13 rfl rfl)
theorem dX4_order_365 : decode cX4_order 365 = .ok (.ireturn, 1) := dk_172 (dk_at dksX4_order_15 15 rfl rfl)
abbrev cX4_enough : ByteArray := prog_21_method_83_code
def yX4_enough : MethodName := ⟨RX4, "enough", "(IIII)I"⟩
def dkwX4_enough_4 : List UInt8 := [21, 6, 172, 132, 6, 1, 167, 255, 225, 2, 172]
abbrev dktX4_enough_4 : List UInt8 := dkwX4_enough_4 ++ []
def dkwX4_enough_3 : List UInt8 := [17, 3, 231, 163, 0, 29, 21, 5, 5, 16, 100, 42, 180, 0, 225, 104, 21, 6, 108, 104, 164, 0, 6]
abbrev dktX4_enough_3 : List UInt8 := dkwX4_enough_3 ++ dktX4_enough_4
def dkwX4_enough_2 : List UInt8 := [167, 0, 16, 42, 180, 0, 191, 27, 46, 42, 180, 0, 191, 28, 46, 100, 54, 5, 4, 54, 6, 21, 6]
abbrev dktX4_enough_2 : List UInt8 := dkwX4_enough_2 ++ dktX4_enough_3
def dkwX4_enough_1 : List UInt8 := [46, 42, 180, 0, 191, 28, 46, 162, 0, 19, 42, 180, 0, 191, 28, 46, 42, 180, 0, 191, 27, 46, 100]
abbrev dktX4_enough_1 : List UInt8 := dkwX4_enough_1 ++ dktX4_enough_2
def dkwX4_enough_0 : List UInt8 := [42, 3, 181, 0, 1, 42, 27, 28, 29, 21, 4, 182, 1, 224, 154, 0, 5, 2, 172, 42, 180, 0, 191, 27]
abbrev dktX4_enough_0 : List UInt8 := dkwX4_enough_0 ++ dktX4_enough_1
theorem dksX4_enough_0 : cX4_enough.data.toList.drop 0 = dktX4_enough_0 := by decide +kernel
theorem dksX4_enough_1 : cX4_enough.data.toList.drop 24 = dktX4_enough_1 := dk_seg dksX4_enough_0 24 rfl rfl
theorem dksX4_enough_2 : cX4_enough.data.toList.drop 47 = dktX4_enough_2 := dk_seg dksX4_enough_1 23 rfl rfl
theorem dksX4_enough_3 : cX4_enough.data.toList.drop 70 = dktX4_enough_3 := dk_seg dksX4_enough_2 23 rfl rfl
theorem dksX4_enough_4 : cX4_enough.data.toList.drop 93 = dktX4_enough_4 := dk_seg dksX4_enough_3 23 rfl rfl
theorem dX4_enough_0 : decode cX4_enough 0 = .ok (.aload_n 0, 1) := dk_42 (dk_at dksX4_enough_0 0 rfl rfl)
theorem dX4_enough_1 : decode cX4_enough 1 = .ok (.iconst 0, 1) := dk_3 (dk_at dksX4_enough_0 1 rfl rfl)
theorem dX4_enough_2 : decode cX4_enough 2 = .ok (.putfield 1, 3) := dk_181 0 1 (dk_at dksX4_enough_0 2 rfl rfl)
theorem dX4_enough_5 : decode cX4_enough 5 = .ok (.aload_n 0, 1) := dk_42 (dk_at dksX4_enough_0 5 rfl rfl)
theorem dX4_enough_6 : decode cX4_enough 6 = .ok (.iload_n 1, 1) := dk_27 (dk_at dksX4_enough_0 6 rfl rfl)
theorem dX4_enough_7 : decode cX4_enough 7 = .ok (.iload_n 2, 1) := dk_28 (dk_at dksX4_enough_0 7 rfl rfl)
theorem dX4_enough_8 : decode cX4_enough 8 = .ok (.iload_n 3, 1) := dk_29 (dk_at dksX4_enough_0 8 rfl rfl)
theorem dX4_enough_9 : decode cX4_enough 9 = .ok (.iload 4, 2) := dk_21 4 (dk_at dksX4_enough_0 9 rfl rfl)
theorem dX4_enough_11 : decode cX4_enough 11 = .ok (.invokevirtual 480, 3) := dk_182 1 224 (dk_at dksX4_enough_0 11 rfl rfl)
theorem dX4_enough_14 : decode cX4_enough 14 = .ok (.ifCond .ne 5, 3) := dk_154 0 5 (dk_at dksX4_enough_0 14 rfl rfl)
theorem dX4_enough_17 : decode cX4_enough 17 = .ok (.iconst (-1), 1) := dk_2 (dk_at dksX4_enough_0 17 rfl rfl)
theorem dX4_enough_18 : decode cX4_enough 18 = .ok (.ireturn, 1) := dk_172 (dk_at dksX4_enough_0 18 rfl rfl)
theorem dX4_enough_19 : decode cX4_enough 19 = .ok (.aload_n 0, 1) := dk_42 (dk_at dksX4_enough_0 19 rfl rfl)
theorem dX4_enough_20 : decode cX4_enough 20 = .ok (.getfield 191, 3) := dk_180 0 191 (dk_at dksX4_enough_0 20 rfl rfl)
theorem dX4_enough_23 : decode cX4_enough 23 = .ok (.iload_n 1, 1) := dk_27 (dk_at dksX4_enough_0 23 rfl rfl)
theorem dX4_enough_24 : decode cX4_enough 24 = .ok (.iaload, 1) := dk_46 (dk_at dksX4_enough_1 0 rfl rfl)
theorem dX4_enough_25 : decode cX4_enough 25 = .ok (.aload_n 0, 1) := dk_42 (dk_at dksX4_enough_1 1 rfl rfl)
theorem dX4_enough_26 : decode cX4_enough 26 = .ok (.getfield 191, 3) := dk_180 0 191 (dk_at dksX4_enough_1 2 rfl rfl)
theorem dX4_enough_29 : decode cX4_enough 29 = .ok (.iload_n 2, 1) := dk_28 (dk_at dksX4_enough_1 5 rfl rfl)
theorem dX4_enough_30 : decode cX4_enough 30 = .ok (.iaload, 1) := dk_46 (dk_at dksX4_enough_1 6 rfl rfl)
theorem dX4_enough_31 : decode cX4_enough 31 = .ok (.if_icmp .ge 19, 3) := dk_162 0 19 (dk_at dksX4_enough_1 7 rfl rfl)
theorem dX4_enough_34 : decode cX4_enough 34 = .ok (.aload_n 0, 1) := dk_42 (dk_at dksX4_enough_1 10 rfl rfl)
theorem dX4_enough_35 : decode cX4_enough 35 = .ok (.getfield 191, 3) := dk_180 0 191 (dk_at dksX4_enough_1 11 rfl rfl)
theorem dX4_enough_38 : decode cX4_enough 38 = .ok (.iload_n 2, 1) := dk_28 (dk_at dksX4_enough_1 14 rfl rfl)
theorem dX4_enough_39 : decode cX4_enough 39 = .ok (.iaload, 1) := dk_46 (dk_at dksX4_enough_1 15 rfl rfl)
theorem dX4_enough_40 : decode cX4_enough 40 = .ok (.aload_n 0, 1) := dk_42 (dk_at dksX4_enough_1 16 rfl rfl)
theorem dX4_enough_41 : decode cX4_enough 41 = .ok (.getfield 191, 3) := dk_180 0 191 (dk_at dksX4_enough_1 17 rfl rfl)
theorem dX4_enough_44 : decode cX4_enough 44 = .ok (.iload_n 1, 1) := dk_27 (dk_at dksX4_enough_1 20 rfl rfl)
theorem dX4_enough_45 : decode cX4_enough 45 = .ok (.iaload, 1) := dk_46 (dk_at dksX4_enough_1 21 rfl rfl)
theorem dX4_enough_46 : decode cX4_enough 46 = .ok (.isub, 1) := dk_100 (dk_at dksX4_enough_1 22 rfl rfl)
theorem dX4_enough_47 : decode cX4_enough 47 = .ok (.goto 16, 3) := dk_167 0 16 (dk_at dksX4_enough_2 0 rfl rfl)
theorem dX4_enough_50 : decode cX4_enough 50 = .ok (.aload_n 0, 1) := dk_42 (dk_at dksX4_enough_2 3 rfl rfl)
theorem dX4_enough_51 : decode cX4_enough 51 = .ok (.getfield 191, 3) := dk_180 0 191 (dk_at dksX4_enough_2 4 rfl rfl)
theorem dX4_enough_54 : decode cX4_enough 54 = .ok (.iload_n 1, 1) := dk_27 (dk_at dksX4_enough_2 7 rfl rfl)
theorem dX4_enough_55 : decode cX4_enough 55 = .ok (.iaload, 1) := dk_46 (dk_at dksX4_enough_2 8 rfl rfl)
theorem dX4_enough_56 : decode cX4_enough 56 = .ok (.aload_n 0, 1) := dk_42 (dk_at dksX4_enough_2 9 rfl rfl)
theorem dX4_enough_57 : decode cX4_enough 57 = .ok (.getfield 191, 3) := dk_180 0 191 (dk_at dksX4_enough_2 10 rfl rfl)
theorem dX4_enough_60 : decode cX4_enough 60 = .ok (.iload_n 2, 1) := dk_28 (dk_at dksX4_enough_2 13 rfl rfl)
theorem dX4_enough_61 : decode cX4_enough 61 = .ok (.iaload, 1) := dk_46 (dk_at dksX4_enough_2 14 rfl rfl)
theorem dX4_enough_62 : decode cX4_enough 62 = .ok (.isub, 1) := dk_100 (dk_at dksX4_enough_2 15 rfl rfl)
theorem dX4_enough_63 : decode cX4_enough 63 = .ok (.istore 5, 2) := dk_54 5 (dk_at dksX4_enough_2 16 rfl rfl)
theorem dX4_enough_65 : decode cX4_enough 65 = .ok (.iconst 1, 1) := dk_4 (dk_at dksX4_enough_2 18 rfl rfl)
theorem dX4_enough_66 : decode cX4_enough 66 = .ok (.istore 6, 2) := dk_54 6 (dk_at dksX4_enough_2 19 rfl rfl)
theorem dX4_enough_68 : decode cX4_enough 68 = .ok (.iload 6, 2) := dk_21 6 (dk_at dksX4_enough_2 21 rfl rfl)
theorem dX4_enough_70 : decode cX4_enough 70 = .ok (.sipush 999, 3) := dk_17 3 231 (dk_at dksX4_enough_3 0 rfl rfl)
theorem dX4_enough_73 : decode cX4_enough 73 = .ok (.if_icmp .gt 29, 3) := dk_163 0 29 (dk_at dksX4_enough_3 3 rfl rfl)
theorem dX4_enough_76 : decode cX4_enough 76 = .ok (.iload 5, 2) := dk_21 5 (dk_at dksX4_enough_3 6 rfl rfl)
theorem dX4_enough_78 : decode cX4_enough 78 = .ok (.iconst 2, 1) := dk_5 (dk_at dksX4_enough_3 8 rfl rfl)
theorem dX4_enough_79 : decode cX4_enough 79 = .ok (.bipush 100, 2) := dk_16 100 (dk_at dksX4_enough_3 9 rfl rfl)
theorem dX4_enough_81 : decode cX4_enough 81 = .ok (.aload_n 0, 1) := dk_42 (dk_at dksX4_enough_3 11 rfl rfl)
theorem dX4_enough_82 : decode cX4_enough 82 = .ok (.getfield 225, 3) := dk_180 0 225 (dk_at dksX4_enough_3 12 rfl rfl)
theorem dX4_enough_85 : decode cX4_enough 85 = .ok (.imul, 1) := dk_104 (dk_at dksX4_enough_3 15 rfl rfl)
theorem dX4_enough_86 : decode cX4_enough 86 = .ok (.iload 6, 2) := dk_21 6 (dk_at dksX4_enough_3 16 rfl rfl)
theorem dX4_enough_88 : decode cX4_enough 88 = .ok (.idiv, 1) := dk_108 (dk_at dksX4_enough_3 18 rfl rfl)
theorem dX4_enough_89 : decode cX4_enough 89 = .ok (.imul, 1) := dk_104 (dk_at dksX4_enough_3 19 rfl rfl)
theorem dX4_enough_90 : decode cX4_enough 90 = .ok (.if_icmp .le 6, 3) := dk_164 0 6 (dk_at dksX4_enough_3 20 rfl rfl)
theorem dX4_enough_93 : decode cX4_enough 93 = .ok (.iload 6, 2) := dk_21 6 (dk_at dksX4_enough_4 0 rfl rfl)
theorem dX4_enough_95 : decode cX4_enough 95 = .ok (.ireturn, 1) := dk_172 (dk_at dksX4_enough_4 2 rfl rfl)
theorem dX4_enough_96 : decode cX4_enough 96 = .ok (.iinc 6 1, 3) := dk_132 6 1 (dk_at dksX4_enough_4 3 rfl rfl)
theorem dX4_enough_99 : decode cX4_enough 99 = .ok (.goto (-31), 3) := dk_167 255 225 (dk_at dksX4_enough_4 6 rfl rfl)
theorem dX4_enough_102 : decode cX4_enough 102 = .ok (.iconst (-1), 1) := dk_2 (dk_at dksX4_enough_4 9 rfl rfl)
theorem dX4_enough_103 : decode cX4_enough 103 = .ok (.ireturn, 1) := dk_172 (dk_at dksX4_enough_4 10 rfl rfl)
abbrev cX4_may : ByteArray := prog_21_method_85_code
def yX4_may : MethodName := ⟨RX4, "may", "(III)I"⟩
def dkwX4_may_2 : List UInt8 := [3, 172]
abbrev dktX4_may_2 : List UInt8 := dkwX4_may_2 ++ []
def dkwX4_may_1 : List UInt8 := [184, 1, 200, 154, 0, 7, 2, 167, 0, 18, 42, 27, 28, 29, 182, 1, 231, 153, 0, 7, 4, 167, 0, 4]
abbrev dktX4_may_1 : List UInt8 := dkwX4_may_1 ++ dktX4_may_2
def dkwX4_may_0 : List UInt8 := [42, 3, 181, 0, 1, 42, 27, 182, 1, 122, 153, 0, 18, 42, 28, 182, 1, 119, 153, 0, 10, 29]
abbrev dktX4_may_0 : List UInt8 := dkwX4_may_0 ++ dktX4_may_1
theorem dksX4_may_0 : cX4_may.data.toList.drop 0 = dktX4_may_0 := by decide +kernel
theorem dksX4_may_1 : cX4_may.data.toList.drop 22 = dktX4_may_1 := dk_seg dksX4_may_0 22 rfl rfl
theorem dksX4_may_2 : cX4_may.data.toList.drop 46 = dktX4_may_2 := dk_seg dksX4_may_1 24 rfl rfl
theorem dX4_may_0 : decode cX4_may 0 = .ok (.aload_n 0, 1) := dk_42 (dk_at dksX4_may_0 0 rfl rfl)
theorem dX4_may_1 : decode cX4_may 1 = .ok (.iconst 0, 1) := dk_3 (dk_at dksX4_may_0 1 rfl rfl)
theorem dX4_may_2 : decode cX4_may 2 = .ok (.putfield 1, 3) := dk_181 0 1 (dk_at dksX4_may_0 2 rfl rfl)
theorem dX4_may_5 : decode cX4_may 5 = .ok (.aload_n 0, 1) := dk_42 (dk_at dksX4_may_0 5 rfl rfl)
theorem dX4_may_6 : decode cX4_may 6 = .ok (.iload_n 1, 1) := dk_27 (dk_at dksX4_may_0 6 rfl rfl)
theorem dX4_may_7 : decode cX4_may 7 = .ok (.invokevirtual 378, 3) := dk_182 1 122 (dk_at dksX4_may_0 7 rfl rfl)
theorem dX4_may_10 : decode cX4_may 10 = .ok (.ifCond .eq 18, 3) := dk_153 0 18 (dk_at dksX4_may_0 10 rfl rfl)
theorem dX4_may_13 : decode cX4_may 13 = .ok (.aload_n 0, 1) := dk_42 (dk_at dksX4_may_0 13 rfl rfl)
theorem dX4_may_14 : decode cX4_may 14 = .ok (.iload_n 2, 1) := dk_28 (dk_at dksX4_may_0 14 rfl rfl)
theorem dX4_may_15 : decode cX4_may 15 = .ok (.invokevirtual 375, 3) := dk_182 1 119 (dk_at dksX4_may_0 15 rfl rfl)
theorem dX4_may_18 : decode cX4_may 18 = .ok (.ifCond .eq 10, 3) := dk_153 0 10 (dk_at dksX4_may_0 18 rfl rfl)
theorem dX4_may_21 : decode cX4_may 21 = .ok (.iload_n 3, 1) := dk_29 (dk_at dksX4_may_0 21 rfl rfl)
theorem dX4_may_22 : decode cX4_may 22 = .ok (.invokestatic 456, 3) := dk_184 1 200 (dk_at dksX4_may_1 0 rfl rfl)
theorem dX4_may_25 : decode cX4_may 25 = .ok (.ifCond .ne 7, 3) := dk_154 0 7 (dk_at dksX4_may_1 3 rfl rfl)
theorem dX4_may_28 : decode cX4_may 28 = .ok (.iconst (-1), 1) := dk_2 (dk_at dksX4_may_1 6 rfl rfl)
theorem dX4_may_29 : decode cX4_may 29 = .ok (.goto 18, 3) := dk_167 0 18 (dk_at dksX4_may_1 7 rfl rfl)
theorem dX4_may_32 : decode cX4_may 32 = .ok (.aload_n 0, 1) := dk_42 (dk_at dksX4_may_1 10 rfl rfl)
theorem dX4_may_33 : decode cX4_may 33 = .ok (.iload_n 1, 1) := dk_27 (dk_at dksX4_may_1 11 rfl rfl)
theorem dX4_may_34 : decode cX4_may 34 = .ok (.iload_n 2, 1) := dk_28 (dk_at dksX4_may_1 12 rfl rfl)
theorem dX4_may_35 : decode cX4_may 35 = .ok (.iload_n 3, 1) := dk_29 (dk_at dksX4_may_1 13 rfl rfl)
theorem dX4_may_36 : decode cX4_may 36 = .ok (.invokevirtual 487, 3) := dk_182 1 231 (dk_at dksX4_may_1 14 rfl rfl)
theorem dX4_may_39 : decode cX4_may 39 = .ok (.ifCond .eq 7, 3) := dk_153 0 7 (dk_at dksX4_may_1 17 rfl rfl)
theorem dX4_may_42 : decode cX4_may 42 = .ok (.iconst 1, 1) := dk_4 (dk_at dksX4_may_1 20 rfl rfl)
theorem dX4_may_43 : decode cX4_may 43 = .ok (.goto 4, 3) := dk_167 0 4 (dk_at dksX4_may_1 21 rfl rfl)
theorem dX4_may_46 : decode cX4_may 46 = .ok (.iconst 0, 1) := dk_3 (dk_at dksX4_may_2 0 rfl rfl)
theorem dX4_may_47 : decode cX4_may 47 = .ok (.ireturn, 1) := dk_172 (dk_at dksX4_may_2 1 rfl rfl)
abbrev cX4_mayGo : ByteArray := prog_21_method_84_code
def yX4_mayGo : MethodName := ⟨RX4, "mayGo", "(III)Z"⟩
def dkwX4_mayGo_8 : List UInt8 := [167, 255, 114, 21, 4, 172]
abbrev dktX4_mayGo_8 : List UInt8 := dkwX4_mayGo_8 ++ []
def dkwX4_mayGo_7 : List UInt8 := [21, 5, 46, 27, 160, 0, 8, 21, 7, 154, 0, 7, 4, 167, 0, 4, 3, 54, 4, 132, 5, 1]
abbrev dktX4_mayGo_7 : List UInt8 := dkwX4_mayGo_7 ++ dktX4_mayGo_8
def dkwX4_mayGo_6 : List UInt8 := [162, 0, 7, 4, 167, 0, 4, 3, 54, 7, 42, 21, 5, 182, 1, 138, 153, 0, 19, 42, 180, 0, 137]
abbrev dktX4_mayGo_6 : List UInt8 := dkwX4_mayGo_6 ++ dktX4_mayGo_7
def dkwX4_mayGo_5 : List UInt8 := [180, 0, 134, 21, 5, 46, 46, 42, 180, 0, 115, 28, 46, 160, 0, 18, 21, 6, 42, 180, 0, 228, 7, 108]
abbrev dktX4_mayGo_5 : List UInt8 := dkwX4_mayGo_5 ++ dktX4_mayGo_6
def dkwX4_mayGo_4 : List UInt8 := [180, 0, 134, 21, 5, 46, 28, 160, 0, 12, 21, 6, 42, 180, 0, 228, 161, 0, 35, 42, 180, 0, 115, 42]
abbrev dktX4_mayGo_4 : List UInt8 := dkwX4_mayGo_4 ++ dktX4_mayGo_5
def dkwX4_mayGo_3 : List UInt8 := [180, 0, 140, 21, 5, 46, 100, 167, 0, 12, 42, 180, 0, 140, 21, 5, 46, 29, 100, 54, 6, 42]
abbrev dktX4_mayGo_3 : List UInt8 := dkwX4_mayGo_3 ++ dktX4_mayGo_4
def dkwX4_mayGo_2 : List UInt8 := [180, 1, 116, 162, 0, 139, 21, 4, 153, 0, 134, 42, 180, 0, 140, 21, 5, 46, 29, 162, 0, 15, 29, 42]
abbrev dktX4_mayGo_2 : List UInt8 := dkwX4_mayGo_2 ++ dktX4_mayGo_3
def dkwX4_mayGo_1 : List UInt8 := [184, 1, 175, 42, 180, 0, 231, 163, 0, 7, 4, 167, 0, 4, 3, 54, 4, 3, 54, 5, 21, 5, 42]
abbrev dktX4_mayGo_1 : List UInt8 := dkwX4_mayGo_1 ++ dktX4_mayGo_2
def dkwX4_mayGo_0 : List UInt8 := [42, 180, 0, 128, 27, 46, 42, 180, 0, 131, 27, 46, 42, 180, 0, 109, 28, 46, 42, 180, 0, 112, 28, 46]
abbrev dktX4_mayGo_0 : List UInt8 := dkwX4_mayGo_0 ++ dktX4_mayGo_1
theorem dksX4_mayGo_0 : cX4_mayGo.data.toList.drop 0 = dktX4_mayGo_0 := by decide +kernel
theorem dksX4_mayGo_1 : cX4_mayGo.data.toList.drop 24 = dktX4_mayGo_1 := dk_seg dksX4_mayGo_0 24 rfl rfl
theorem dksX4_mayGo_2 : cX4_mayGo.data.toList.drop 47 = dktX4_mayGo_2 := dk_seg dksX4_mayGo_1 23 rfl rfl
theorem dksX4_mayGo_3 : cX4_mayGo.data.toList.drop 71 = dktX4_mayGo_3 := dk_seg dksX4_mayGo_2 24 rfl rfl
theorem dksX4_mayGo_4 : cX4_mayGo.data.toList.drop 93 = dktX4_mayGo_4 := dk_seg dksX4_mayGo_3 22 rfl rfl
theorem dksX4_mayGo_5 : cX4_mayGo.data.toList.drop 117 = dktX4_mayGo_5 := dk_seg dksX4_mayGo_4 24 rfl rfl
theorem dksX4_mayGo_6 : cX4_mayGo.data.toList.drop 141 = dktX4_mayGo_6 := dk_seg dksX4_mayGo_5 24 rfl rfl
theorem dksX4_mayGo_7 : cX4_mayGo.data.toList.drop 164 = dktX4_mayGo_7 := dk_seg dksX4_mayGo_6 23 rfl rfl
theorem dksX4_mayGo_8 : cX4_mayGo.data.toList.drop 186 = dktX4_mayGo_8 := dk_seg dksX4_mayGo_7 22 rfl rfl
theorem dX4_mayGo_0 : decode cX4_mayGo 0 = .ok (.aload_n 0, 1) := dk_42 (dk_at dksX4_mayGo_0 0 rfl rfl)
theorem dX4_mayGo_1 : decode cX4_mayGo 1 = .ok (.getfield 128, 3) := dk_180 0 128 (dk_at dksX4_mayGo_0 1 rfl rfl)
theorem dX4_mayGo_4 : decode cX4_mayGo 4 = .ok (.iload_n 1, 1) := dk_27 (dk_at dksX4_mayGo_0 4 rfl rfl)
theorem dX4_mayGo_5 : decode cX4_mayGo 5 = .ok (.iaload, 1) := dk_46 (dk_at dksX4_mayGo_0 5 rfl rfl)
theorem dX4_mayGo_6 : decode cX4_mayGo 6 = .ok (.aload_n 0, 1) := dk_42 (dk_at dksX4_mayGo_0 6 rfl rfl)
theorem dX4_mayGo_7 : decode cX4_mayGo 7 = .ok (.getfield 131, 3) := dk_180 0 131 (dk_at dksX4_mayGo_0 7 rfl rfl)
theorem dX4_mayGo_10 : decode cX4_mayGo 10 = .ok (.iload_n 1, 1) := dk_27 (dk_at dksX4_mayGo_0 10 rfl rfl)
theorem dX4_mayGo_11 : decode cX4_mayGo 11 = .ok (.iaload, 1) := dk_46 (dk_at dksX4_mayGo_0 11 rfl rfl)
theorem dX4_mayGo_12 : decode cX4_mayGo 12 = .ok (.aload_n 0, 1) := dk_42 (dk_at dksX4_mayGo_0 12 rfl rfl)
theorem dX4_mayGo_13 : decode cX4_mayGo 13 = .ok (.getfield 109, 3) := dk_180 0 109 (dk_at dksX4_mayGo_0 13 rfl rfl)
theorem dX4_mayGo_16 : decode cX4_mayGo 16 = .ok (.iload_n 2, 1) := dk_28 (dk_at dksX4_mayGo_0 16 rfl rfl)
theorem dX4_mayGo_17 : decode cX4_mayGo 17 = .ok (.iaload, 1) := dk_46 (dk_at dksX4_mayGo_0 17 rfl rfl)
theorem dX4_mayGo_18 : decode cX4_mayGo 18 = .ok (.aload_n 0, 1) := dk_42 (dk_at dksX4_mayGo_0 18 rfl rfl)
theorem dX4_mayGo_19 : decode cX4_mayGo 19 = .ok (.getfield 112, 3) := dk_180 0 112 (dk_at dksX4_mayGo_0 19 rfl rfl)
theorem dX4_mayGo_22 : decode cX4_mayGo 22 = .ok (.iload_n 2, 1) := dk_28 (dk_at dksX4_mayGo_0 22 rfl rfl)
theorem dX4_mayGo_23 : decode cX4_mayGo 23 = .ok (.iaload, 1) := dk_46 (dk_at dksX4_mayGo_0 23 rfl rfl)
theorem dX4_mayGo_24 : decode cX4_mayGo 24 = .ok (.invokestatic 431, 3) := dk_184 1 175 (dk_at dksX4_mayGo_1 0 rfl rfl)
theorem dX4_mayGo_27 : decode cX4_mayGo 27 = .ok (.aload_n 0, 1) := dk_42 (dk_at dksX4_mayGo_1 3 rfl rfl)
theorem dX4_mayGo_28 : decode cX4_mayGo 28 = .ok (.getfield 231, 3) := dk_180 0 231 (dk_at dksX4_mayGo_1 4 rfl rfl)
theorem dX4_mayGo_31 : decode cX4_mayGo 31 = .ok (.if_icmp .gt 7, 3) := dk_163 0 7 (dk_at dksX4_mayGo_1 7 rfl rfl)
theorem dX4_mayGo_34 : decode cX4_mayGo 34 = .ok (.iconst 1, 1) := dk_4 (dk_at dksX4_mayGo_1 10 rfl rfl)
theorem dX4_mayGo_35 : decode cX4_mayGo 35 = .ok (.goto 4, 3) := dk_167 0 4 (dk_at dksX4_mayGo_1 11 rfl rfl)
theorem dX4_mayGo_38 : decode cX4_mayGo 38 = .ok (.iconst 0, 1) := dk_3 (dk_at dksX4_mayGo_1 14 rfl rfl)
theorem dX4_mayGo_39 : decode cX4_mayGo 39 = .ok (.istore 4, 2) := dk_54 4 (dk_at dksX4_mayGo_1 15 rfl rfl)
theorem dX4_mayGo_41 : decode cX4_mayGo 41 = .ok (.iconst 0, 1) := dk_3 (dk_at dksX4_mayGo_1 17 rfl rfl)
theorem dX4_mayGo_42 : decode cX4_mayGo 42 = .ok (.istore 5, 2) := dk_54 5 (dk_at dksX4_mayGo_1 18 rfl rfl)
theorem dX4_mayGo_44 : decode cX4_mayGo 44 = .ok (.iload 5, 2) := dk_21 5 (dk_at dksX4_mayGo_1 20 rfl rfl)
theorem dX4_mayGo_46 : decode cX4_mayGo 46 = .ok (.aload_n 0, 1) := dk_42 (dk_at dksX4_mayGo_1 22 rfl rfl)
theorem dX4_mayGo_47 : decode cX4_mayGo 47 = .ok (.getfield 372, 3) := dk_180 1 116 (dk_at dksX4_mayGo_2 0 rfl rfl)
theorem dX4_mayGo_50 : decode cX4_mayGo 50 = .ok (.if_icmp .ge 139, 3) := dk_162 0 139 (dk_at dksX4_mayGo_2 3 rfl rfl)
theorem dX4_mayGo_53 : decode cX4_mayGo 53 = .ok (.iload 4, 2) := dk_21 4 (dk_at dksX4_mayGo_2 6 rfl rfl)
theorem dX4_mayGo_55 : decode cX4_mayGo 55 = .ok (.ifCond .eq 134, 3) := dk_153 0 134 (dk_at dksX4_mayGo_2 8 rfl rfl)
theorem dX4_mayGo_58 : decode cX4_mayGo 58 = .ok (.aload_n 0, 1) := dk_42 (dk_at dksX4_mayGo_2 11 rfl rfl)
theorem dX4_mayGo_59 : decode cX4_mayGo 59 = .ok (.getfield 140, 3) := dk_180 0 140 (dk_at dksX4_mayGo_2 12 rfl rfl)
theorem dX4_mayGo_62 : decode cX4_mayGo 62 = .ok (.iload 5, 2) := dk_21 5 (dk_at dksX4_mayGo_2 15 rfl rfl)
theorem dX4_mayGo_64 : decode cX4_mayGo 64 = .ok (.iaload, 1) := dk_46 (dk_at dksX4_mayGo_2 17 rfl rfl)
theorem dX4_mayGo_65 : decode cX4_mayGo 65 = .ok (.iload_n 3, 1) := dk_29 (dk_at dksX4_mayGo_2 18 rfl rfl)
theorem dX4_mayGo_66 : decode cX4_mayGo 66 = .ok (.if_icmp .ge 15, 3) := dk_162 0 15 (dk_at dksX4_mayGo_2 19 rfl rfl)
theorem dX4_mayGo_69 : decode cX4_mayGo 69 = .ok (.iload_n 3, 1) := dk_29 (dk_at dksX4_mayGo_2 22 rfl rfl)
theorem dX4_mayGo_70 : decode cX4_mayGo 70 = .ok (.aload_n 0, 1) := dk_42 (dk_at dksX4_mayGo_2 23 rfl rfl)
theorem dX4_mayGo_71 : decode cX4_mayGo 71 = .ok (.getfield 140, 3) := dk_180 0 140 (dk_at dksX4_mayGo_3 0 rfl rfl)
theorem dX4_mayGo_74 : decode cX4_mayGo 74 = .ok (.iload 5, 2) := dk_21 5 (dk_at dksX4_mayGo_3 3 rfl rfl)
theorem dX4_mayGo_76 : decode cX4_mayGo 76 = .ok (.iaload, 1) := dk_46 (dk_at dksX4_mayGo_3 5 rfl rfl)
theorem dX4_mayGo_77 : decode cX4_mayGo 77 = .ok (.isub, 1) := dk_100 (dk_at dksX4_mayGo_3 6 rfl rfl)
theorem dX4_mayGo_78 : decode cX4_mayGo 78 = .ok (.goto 12, 3) := dk_167 0 12 (dk_at dksX4_mayGo_3 7 rfl rfl)
theorem dX4_mayGo_81 : decode cX4_mayGo 81 = .ok (.aload_n 0, 1) := dk_42 (dk_at dksX4_mayGo_3 10 rfl rfl)
theorem dX4_mayGo_82 : decode cX4_mayGo 82 = .ok (.getfield 140, 3) := dk_180 0 140 (dk_at dksX4_mayGo_3 11 rfl rfl)
theorem dX4_mayGo_85 : decode cX4_mayGo 85 = .ok (.iload 5, 2) := dk_21 5 (dk_at dksX4_mayGo_3 14 rfl rfl)
theorem dX4_mayGo_87 : decode cX4_mayGo 87 = .ok (.iaload, 1) := dk_46 (dk_at dksX4_mayGo_3 16 rfl rfl)
theorem dX4_mayGo_88 : decode cX4_mayGo 88 = .ok (.iload_n 3, 1) := dk_29 (dk_at dksX4_mayGo_3 17 rfl rfl)
theorem dX4_mayGo_89 : decode cX4_mayGo 89 = .ok (.isub, 1) := dk_100 (dk_at dksX4_mayGo_3 18 rfl rfl)
theorem dX4_mayGo_90 : decode cX4_mayGo 90 = .ok (.istore 6, 2) := dk_54 6 (dk_at dksX4_mayGo_3 19 rfl rfl)
theorem dX4_mayGo_92 : decode cX4_mayGo 92 = .ok (.aload_n 0, 1) := dk_42 (dk_at dksX4_mayGo_3 21 rfl rfl)
theorem dX4_mayGo_93 : decode cX4_mayGo 93 = .ok (.getfield 134, 3) := dk_180 0 134 (dk_at dksX4_mayGo_4 0 rfl rfl)
theorem dX4_mayGo_96 : decode cX4_mayGo 96 = .ok (.iload 5, 2) := dk_21 5 (dk_at dksX4_mayGo_4 3 rfl rfl)
theorem dX4_mayGo_98 : decode cX4_mayGo 98 = .ok (.iaload, 1) := dk_46 (dk_at dksX4_mayGo_4 5 rfl rfl)
theorem dX4_mayGo_99 : decode cX4_mayGo 99 = .ok (.iload_n 2, 1) := dk_28 (dk_at dksX4_mayGo_4 6 rfl rfl)
theorem dX4_mayGo_100 : decode cX4_mayGo 100 = .ok (.if_icmp .ne 12, 3) := dk_160 0 12 (dk_at dksX4_mayGo_4 7 rfl rfl)
theorem dX4_mayGo_103 : decode cX4_mayGo 103 = .ok (.iload 6, 2) := dk_21 6 (dk_at dksX4_mayGo_4 10 rfl rfl)
theorem dX4_mayGo_105 : decode cX4_mayGo 105 = .ok (.aload_n 0, 1) := dk_42 (dk_at dksX4_mayGo_4 12 rfl rfl)
theorem dX4_mayGo_106 : decode cX4_mayGo 106 = .ok (.getfield 228, 3) := dk_180 0 228 (dk_at dksX4_mayGo_4 13 rfl rfl)
theorem dX4_mayGo_109 : decode cX4_mayGo 109 = .ok (.if_icmp .lt 35, 3) := dk_161 0 35 (dk_at dksX4_mayGo_4 16 rfl rfl)
theorem dX4_mayGo_112 : decode cX4_mayGo 112 = .ok (.aload_n 0, 1) := dk_42 (dk_at dksX4_mayGo_4 19 rfl rfl)
theorem dX4_mayGo_113 : decode cX4_mayGo 113 = .ok (.getfield 115, 3) := dk_180 0 115 (dk_at dksX4_mayGo_4 20 rfl rfl)
theorem dX4_mayGo_116 : decode cX4_mayGo 116 = .ok (.aload_n 0, 1) := dk_42 (dk_at dksX4_mayGo_4 23 rfl rfl)
theorem dX4_mayGo_117 : decode cX4_mayGo 117 = .ok (.getfield 134, 3) := dk_180 0 134 (dk_at dksX4_mayGo_5 0 rfl rfl)
theorem dX4_mayGo_120 : decode cX4_mayGo 120 = .ok (.iload 5, 2) := dk_21 5 (dk_at dksX4_mayGo_5 3 rfl rfl)
theorem dX4_mayGo_122 : decode cX4_mayGo 122 = .ok (.iaload, 1) := dk_46 (dk_at dksX4_mayGo_5 5 rfl rfl)
theorem dX4_mayGo_123 : decode cX4_mayGo 123 = .ok (.iaload, 1) := dk_46 (dk_at dksX4_mayGo_5 6 rfl rfl)
theorem dX4_mayGo_124 : decode cX4_mayGo 124 = .ok (.aload_n 0, 1) := dk_42 (dk_at dksX4_mayGo_5 7 rfl rfl)
theorem dX4_mayGo_125 : decode cX4_mayGo 125 = .ok (.getfield 115, 3) := dk_180 0 115 (dk_at dksX4_mayGo_5 8 rfl rfl)
theorem dX4_mayGo_128 : decode cX4_mayGo 128 = .ok (.iload_n 2, 1) := dk_28 (dk_at dksX4_mayGo_5 11 rfl rfl)
theorem dX4_mayGo_129 : decode cX4_mayGo 129 = .ok (.iaload, 1) := dk_46 (dk_at dksX4_mayGo_5 12 rfl rfl)
theorem dX4_mayGo_130 : decode cX4_mayGo 130 = .ok (.if_icmp .ne 18, 3) := dk_160 0 18 (dk_at dksX4_mayGo_5 13 rfl rfl)
theorem dX4_mayGo_133 : decode cX4_mayGo 133 = .ok (.iload 6, 2) := dk_21 6 (dk_at dksX4_mayGo_5 16 rfl rfl)
theorem dX4_mayGo_135 : decode cX4_mayGo 135 = .ok (.aload_n 0, 1) := dk_42 (dk_at dksX4_mayGo_5 18 rfl rfl)
theorem dX4_mayGo_136 : decode cX4_mayGo 136 = .ok (.getfield 228, 3) := dk_180 0 228 (dk_at dksX4_mayGo_5 19 rfl rfl)
theorem dX4_mayGo_139 : decode cX4_mayGo 139 = .ok (.iconst 4, 1) := dk_7 (dk_at dksX4_mayGo_5 22 rfl rfl)
theorem dX4_mayGo_140 : decode cX4_mayGo 140 = .ok (.idiv, 1) := dk_108 (dk_at dksX4_mayGo_5 23 rfl rfl)
theorem dX4_mayGo_141 : decode cX4_mayGo 141 = .ok (.if_icmp .ge 7, 3) := dk_162 0 7 (dk_at dksX4_mayGo_6 0 rfl rfl)
theorem dX4_mayGo_144 : decode cX4_mayGo 144 = .ok (.iconst 1, 1) := dk_4 (dk_at dksX4_mayGo_6 3 rfl rfl)
theorem dX4_mayGo_145 : decode cX4_mayGo 145 = .ok (.goto 4, 3) := dk_167 0 4 (dk_at dksX4_mayGo_6 4 rfl rfl)
theorem dX4_mayGo_148 : decode cX4_mayGo 148 = .ok (.iconst 0, 1) := dk_3 (dk_at dksX4_mayGo_6 7 rfl rfl)
theorem dX4_mayGo_149 : decode cX4_mayGo 149 = .ok (.istore 7, 2) := dk_54 7 (dk_at dksX4_mayGo_6 8 rfl rfl)
theorem dX4_mayGo_151 : decode cX4_mayGo 151 = .ok (.aload_n 0, 1) := dk_42 (dk_at dksX4_mayGo_6 10 rfl rfl)
theorem dX4_mayGo_152 : decode cX4_mayGo 152 = .ok (.iload 5, 2) := dk_21 5 (dk_at dksX4_mayGo_6 11 rfl rfl)
theorem dX4_mayGo_154 : decode cX4_mayGo 154 = .ok (.invokevirtual 394, 3) := dk_182 1 138 (dk_at dksX4_mayGo_6 13 rfl rfl)
theorem dX4_mayGo_157 : decode cX4_mayGo 157 = .ok (.ifCond .eq 19, 3) := dk_153 0 19 (dk_at dksX4_mayGo_6 16 rfl rfl)
theorem dX4_mayGo_160 : decode cX4_mayGo 160 = .ok (.aload_n 0, 1) := dk_42 (dk_at dksX4_mayGo_6 19 rfl rfl)
theorem dX4_mayGo_161 : decode cX4_mayGo 161 = .ok (.getfield 137, 3) := dk_180 0 137 (dk_at dksX4_mayGo_6 20 rfl rfl)
theorem dX4_mayGo_164 : decode cX4_mayGo 164 = .ok (.iload 5, 2) := dk_21 5 (dk_at dksX4_mayGo_7 0 rfl rfl)
theorem dX4_mayGo_166 : decode cX4_mayGo 166 = .ok (.iaload, 1) := dk_46 (dk_at dksX4_mayGo_7 2 rfl rfl)
theorem dX4_mayGo_167 : decode cX4_mayGo 167 = .ok (.iload_n 1, 1) := dk_27 (dk_at dksX4_mayGo_7 3 rfl rfl)
theorem dX4_mayGo_168 : decode cX4_mayGo 168 = .ok (.if_icmp .ne 8, 3) := dk_160 0 8 (dk_at dksX4_mayGo_7 4 rfl rfl)
theorem dX4_mayGo_171 : decode cX4_mayGo 171 = .ok (.iload 7, 2) := dk_21 7 (dk_at dksX4_mayGo_7 7 rfl rfl)
theorem dX4_mayGo_173 : decode cX4_mayGo 173 = .ok (.ifCond .ne 7, 3) := dk_154 0 7 (dk_at dksX4_mayGo_7 9 rfl rfl)
theorem dX4_mayGo_176 : decode cX4_mayGo 176 = .ok (.iconst 1, 1) := dk_4 (dk_at dksX4_mayGo_7 12 rfl rfl)
theorem dX4_mayGo_177 : decode cX4_mayGo 177 = .ok (.goto 4, 3) := dk_167 0 4 (dk_at dksX4_mayGo_7 13 rfl rfl)
theorem dX4_mayGo_180 : decode cX4_mayGo 180 = .ok (.iconst 0, 1) := dk_3 (dk_at dksX4_mayGo_7 16 rfl rfl)
theorem dX4_mayGo_181 : decode cX4_mayGo 181 = .ok (.istore 4, 2) := dk_54 4 (dk_at dksX4_mayGo_7 17 rfl rfl)
theorem dX4_mayGo_183 : decode cX4_mayGo 183 = .ok (.iinc 5 1, 3) := dk_132 5 1 (dk_at dksX4_mayGo_7 19 rfl rfl)
theorem dX4_mayGo_186 : decode cX4_mayGo 186 = .ok (.goto (-142), 3) := dk_167 255 114 (dk_at dksX4_mayGo_8 0 rfl rfl)
theorem dX4_mayGo_189 : decode cX4_mayGo 189 = .ok (.iload 4, 2) := dk_21 4 (dk_at dksX4_mayGo_8 3 rfl rfl)
theorem dX4_mayGo_191 : decode cX4_mayGo 191 = .ok (.ireturn, 1) := dk_172 (dk_at dksX4_mayGo_8 5 rfl rfl)
abbrev cX4_given : ByteArray := prog_21_method_89_code
def yX4_given : MethodName := ⟨RX4, "given", "(III)I"⟩
def dkwX4_given_5 : List UInt8 := [42, 180, 0, 204, 3, 46, 172]
abbrev dktX4_given_5 : List UInt8 := dkwX4_given_5 ++ []
def dkwX4_given_4 : List UInt8 := [180, 0, 207, 21, 5, 46, 29, 160, 0, 11, 42, 180, 0, 210, 21, 5, 46, 172, 132, 5, 1, 167, 255, 227]
abbrev dktX4_given_4 : List UInt8 := dkwX4_given_4 ++ dktX4_given_5
def dkwX4_given_3 : List UInt8 := [180, 0, 204, 3, 46, 19, 1, 234, 160, 0, 5, 2, 172, 3, 54, 5, 21, 5, 21, 4, 162, 0, 28, 42]
abbrev dktX4_given_3 : List UInt8 := dkwX4_given_3 ++ dktX4_given_4
def dkwX4_given_2 : List UInt8 := [16, 20, 162, 0, 13, 27, 29, 122, 4, 126, 154, 0, 5, 2, 172, 42, 27, 28, 182, 1, 241, 54, 4, 42]
abbrev dktX4_given_2 : List UInt8 := dkwX4_given_2 ++ dktX4_given_3
def dkwX4_given_1 : List UInt8 := [16, 8, 163, 0, 34, 28, 184, 1, 200, 153, 0, 27, 29, 3, 16, 20, 184, 1, 102, 153, 0, 17, 29]
abbrev dktX4_given_1 : List UInt8 := dkwX4_given_1 ++ dktX4_given_2
def dkwX4_given_0 : List UInt8 := [42, 3, 181, 0, 1, 27, 158, 0, 53, 27, 4, 42, 180, 1, 110, 120, 162, 0, 43, 27, 184, 1, 135]
abbrev dktX4_given_0 : List UInt8 := dkwX4_given_0 ++ dktX4_given_1
theorem dksX4_given_0 : cX4_given.data.toList.drop 0 = dktX4_given_0 := by decide +kernel
theorem dksX4_given_1 : cX4_given.data.toList.drop 23 = dktX4_given_1 := dk_seg dksX4_given_0 23 rfl rfl
theorem dksX4_given_2 : cX4_given.data.toList.drop 46 = dktX4_given_2 := dk_seg dksX4_given_1 23 rfl rfl
theorem dksX4_given_3 : cX4_given.data.toList.drop 70 = dktX4_given_3 := dk_seg dksX4_given_2 24 rfl rfl
theorem dksX4_given_4 : cX4_given.data.toList.drop 94 = dktX4_given_4 := dk_seg dksX4_given_3 24 rfl rfl
theorem dksX4_given_5 : cX4_given.data.toList.drop 118 = dktX4_given_5 := dk_seg dksX4_given_4 24 rfl rfl
theorem dX4_given_0 : decode cX4_given 0 = .ok (.aload_n 0, 1) := dk_42 (dk_at dksX4_given_0 0 rfl rfl)
theorem dX4_given_1 : decode cX4_given 1 = .ok (.iconst 0, 1) := dk_3 (dk_at dksX4_given_0 1 rfl rfl)
theorem dX4_given_2 : decode cX4_given 2 = .ok (.putfield 1, 3) := dk_181 0 1 (dk_at dksX4_given_0 2 rfl rfl)
theorem dX4_given_5 : decode cX4_given 5 = .ok (.iload_n 1, 1) := dk_27 (dk_at dksX4_given_0 5 rfl rfl)
theorem dX4_given_6 : decode cX4_given 6 = .ok (.ifCond .le 53, 3) := dk_158 0 53 (dk_at dksX4_given_0 6 rfl rfl)
theorem dX4_given_9 : decode cX4_given 9 = .ok (.iload_n 1, 1) := dk_27 (dk_at dksX4_given_0 9 rfl rfl)
theorem dX4_given_10 : decode cX4_given 10 = .ok (.iconst 1, 1) := dk_4 (dk_at dksX4_given_0 10 rfl rfl)
theorem dX4_given_11 : decode cX4_given 11 = .ok (.aload_n 0, 1) := dk_42 (dk_at dksX4_given_0 11 rfl rfl)
theorem dX4_given_12 : decode cX4_given 12 = .ok (.getfield 366, 3) := dk_180 1 110 (dk_at dksX4_given_0 12 rfl rfl)
theorem dX4_given_15 : decode cX4_given 15 = .ok (.ishl, 1) := dk_120 (dk_at dksX4_given_0 15 rfl rfl)
theorem dX4_given_16 : decode cX4_given 16 = .ok (.if_icmp .ge 43, 3) := dk_162 0 43 (dk_at dksX4_given_0 16 rfl rfl)
theorem dX4_given_19 : decode cX4_given 19 = .ok (.iload_n 1, 1) := dk_27 (dk_at dksX4_given_0 19 rfl rfl)
theorem dX4_given_20 : decode cX4_given 20 = .ok (.invokestatic 391, 3) := dk_184 1 135 (dk_at dksX4_given_0 20 rfl rfl)
theorem dX4_given_23 : decode cX4_given 23 = .ok (.bipush 8, 2) := dk_16 8 (dk_at dksX4_given_1 0 rfl rfl)
theorem dX4_given_25 : decode cX4_given 25 = .ok (.if_icmp .gt 34, 3) := dk_163 0 34 (dk_at dksX4_given_1 2 rfl rfl)
theorem dX4_given_28 : decode cX4_given 28 = .ok (.iload_n 2, 1) := dk_28 (dk_at dksX4_given_1 5 rfl rfl)
theorem dX4_given_29 : decode cX4_given 29 = .ok (.invokestatic 456, 3) := dk_184 1 200 (dk_at dksX4_given_1 6 rfl rfl)
theorem dX4_given_32 : decode cX4_given 32 = .ok (.ifCond .eq 27, 3) := dk_153 0 27 (dk_at dksX4_given_1 9 rfl rfl)
theorem dX4_given_35 : decode cX4_given 35 = .ok (.iload_n 3, 1) := dk_29 (dk_at dksX4_given_1 12 rfl rfl)
theorem dX4_given_36 : decode cX4_given 36 = .ok (.iconst 0, 1) := dk_3 (dk_at dksX4_given_1 13 rfl rfl)
theorem dX4_given_37 : decode cX4_given 37 = .ok (.bipush 20, 2) := dk_16 20 (dk_at dksX4_given_1 14 rfl rfl)
theorem dX4_given_39 : decode cX4_given 39 = .ok (.invokestatic 358, 3) := dk_184 1 102 (dk_at dksX4_given_1 16 rfl rfl)
theorem dX4_given_42 : decode cX4_given 42 = .ok (.ifCond .eq 17, 3) := dk_153 0 17 (dk_at dksX4_given_1 19 rfl rfl)
theorem dX4_given_45 : decode cX4_given 45 = .ok (.iload_n 3, 1) := dk_29 (dk_at dksX4_given_1 22 rfl rfl)
theorem dX4_given_46 : decode cX4_given 46 = .ok (.bipush 20, 2) := dk_16 20 (dk_at dksX4_given_2 0 rfl rfl)
theorem dX4_given_48 : decode cX4_given 48 = .ok (.if_icmp .ge 13, 3) := dk_162 0 13 (dk_at dksX4_given_2 2 rfl rfl)
theorem dX4_given_51 : decode cX4_given 51 = .ok (.iload_n 1, 1) := dk_27 (dk_at dksX4_given_2 5 rfl rfl)
theorem dX4_given_52 : decode cX4_given 52 = .ok (.iload_n 3, 1) := dk_29 (dk_at dksX4_given_2 6 rfl rfl)
theorem dX4_given_53 : decode cX4_given 53 = .ok (.ishr, 1) := dk_122 (dk_at dksX4_given_2 7 rfl rfl)
theorem dX4_given_54 : decode cX4_given 54 = .ok (.iconst 1, 1) := dk_4 (dk_at dksX4_given_2 8 rfl rfl)
theorem dX4_given_55 : decode cX4_given 55 = .ok (.iand, 1) := dk_126 (dk_at dksX4_given_2 9 rfl rfl)
theorem dX4_given_56 : decode cX4_given 56 = .ok (.ifCond .ne 5, 3) := dk_154 0 5 (dk_at dksX4_given_2 10 rfl rfl)
theorem dX4_given_59 : decode cX4_given 59 = .ok (.iconst (-1), 1) := dk_2 (dk_at dksX4_given_2 13 rfl rfl)
theorem dX4_given_60 : decode cX4_given 60 = .ok (.ireturn, 1) := dk_172 (dk_at dksX4_given_2 14 rfl rfl)
theorem dX4_given_61 : decode cX4_given 61 = .ok (.aload_n 0, 1) := dk_42 (dk_at dksX4_given_2 15 rfl rfl)
theorem dX4_given_62 : decode cX4_given 62 = .ok (.iload_n 1, 1) := dk_27 (dk_at dksX4_given_2 16 rfl rfl)
theorem dX4_given_63 : decode cX4_given 63 = .ok (.iload_n 2, 1) := dk_28 (dk_at dksX4_given_2 17 rfl rfl)
theorem dX4_given_64 : decode cX4_given 64 = .ok (.invokevirtual 497, 3) := dk_182 1 241 (dk_at dksX4_given_2 18 rfl rfl)
theorem dX4_given_67 : decode cX4_given 67 = .ok (.istore 4, 2) := dk_54 4 (dk_at dksX4_given_2 21 rfl rfl)
theorem dX4_given_69 : decode cX4_given 69 = .ok (.aload_n 0, 1) := dk_42 (dk_at dksX4_given_2 23 rfl rfl)
theorem dX4_given_70 : decode cX4_given 70 = .ok (.getfield 204, 3) := dk_180 0 204 (dk_at dksX4_given_3 0 rfl rfl)
theorem dX4_given_73 : decode cX4_given 73 = .ok (.iconst 0, 1) := dk_3 (dk_at dksX4_given_3 3 rfl rfl)
theorem dX4_given_74 : decode cX4_given 74 = .ok (.iaload, 1) := dk_46 (dk_at dksX4_given_3 4 rfl rfl)
theorem dX4_given_75 : decode cX4_given 75 = .ok (.ldc_w 490, 3) := dk_19 1 234 (dk_at dksX4_given_3 5 rfl rfl)
theorem dX4_given_78 : decode cX4_given 78 = .ok (.if_icmp .ne 5, 3) := dk_160 0 5 (dk_at dksX4_given_3 8 rfl rfl)
theorem dX4_given_81 : decode cX4_given 81 = .ok (.iconst (-1), 1) := dk_2 (dk_at dksX4_given_3 11 rfl rfl)
theorem dX4_given_82 : decode cX4_given 82 = .ok (.ireturn, 1) := dk_172 (dk_at dksX4_given_3 12 rfl rfl)
theorem dX4_given_83 : decode cX4_given 83 = .ok (.iconst 0, 1) := dk_3 (dk_at dksX4_given_3 13 rfl rfl)
theorem dX4_given_84 : decode cX4_given 84 = .ok (.istore 5, 2) := dk_54 5 (dk_at dksX4_given_3 14 rfl rfl)
theorem dX4_given_86 : decode cX4_given 86 = .ok (.iload 5, 2) := dk_21 5 (dk_at dksX4_given_3 16 rfl rfl)
theorem dX4_given_88 : decode cX4_given 88 = .ok (.iload 4, 2) := dk_21 4 (dk_at dksX4_given_3 18 rfl rfl)
theorem dX4_given_90 : decode cX4_given 90 = .ok (.if_icmp .ge 28, 3) := dk_162 0 28 (dk_at dksX4_given_3 20 rfl rfl)
theorem dX4_given_93 : decode cX4_given 93 = .ok (.aload_n 0, 1) := dk_42 (dk_at dksX4_given_3 23 rfl rfl)
theorem dX4_given_94 : decode cX4_given 94 = .ok (.getfield 207, 3) := dk_180 0 207 (dk_at dksX4_given_4 0 rfl rfl)
theorem dX4_given_97 : decode cX4_given 97 = .ok (.iload 5, 2) := dk_21 5 (dk_at dksX4_given_4 3 rfl rfl)
theorem dX4_given_99 : decode cX4_given 99 = .ok (.iaload, 1) := dk_46 (dk_at dksX4_given_4 5 rfl rfl)
theorem dX4_given_100 : decode cX4_given 100 = .ok (.iload_n 3, 1) := dk_29 (dk_at dksX4_given_4 6 rfl rfl)
theorem dX4_given_101 : decode cX4_given 101 = .ok (.if_icmp .ne 11, 3) := dk_160 0 11 (dk_at dksX4_given_4 7 rfl rfl)
theorem dX4_given_104 : decode cX4_given 104 = .ok (.aload_n 0, 1) := dk_42 (dk_at dksX4_given_4 10 rfl rfl)
theorem dX4_given_105 : decode cX4_given 105 = .ok (.getfield 210, 3) := dk_180 0 210 (dk_at dksX4_given_4 11 rfl rfl)
theorem dX4_given_108 : decode cX4_given 108 = .ok (.iload 5, 2) := dk_21 5 (dk_at dksX4_given_4 14 rfl rfl)
theorem dX4_given_110 : decode cX4_given 110 = .ok (.iaload, 1) := dk_46 (dk_at dksX4_given_4 16 rfl rfl)
theorem dX4_given_111 : decode cX4_given 111 = .ok (.ireturn, 1) := dk_172 (dk_at dksX4_given_4 17 rfl rfl)
theorem dX4_given_112 : decode cX4_given 112 = .ok (.iinc 5 1, 3) := dk_132 5 1 (dk_at dksX4_given_4 18 rfl rfl)
theorem dX4_given_115 : decode cX4_given 115 = .ok (.goto (-29), 3) := dk_167 255 227 (dk_at dksX4_given_4 21 rfl rfl)
theorem dX4_given_118 : decode cX4_given 118 = .ok (.aload_n 0, 1) := dk_42 (dk_at dksX4_given_5 0 rfl rfl)
theorem dX4_given_119 : decode cX4_given 119 = .ok (.getfield 204, 3) := dk_180 0 204 (dk_at dksX4_given_5 1 rfl rfl)
theorem dX4_given_122 : decode cX4_given 122 = .ok (.iconst 0, 1) := dk_3 (dk_at dksX4_given_5 4 rfl rfl)
theorem dX4_given_123 : decode cX4_given 123 = .ok (.iaload, 1) := dk_46 (dk_at dksX4_given_5 5 rfl rfl)
theorem dX4_given_124 : decode cX4_given 124 = .ok (.ireturn, 1) := dk_172 (dk_at dksX4_given_5 6 rfl rfl)
abbrev cX4_gives : ByteArray := prog_21_method_88_code
def yX4_gives : MethodName := ⟨RX4, "gives", "(II)I"⟩
def dkwX4_gives_14 : List UInt8 := [96, 54, 4, 132, 5, 1, 167, 255, 178, 29, 172]
abbrev dktX4_gives_14 : List UInt8 := dkwX4_gives_14 ++ []
def dkwX4_gives_13 : List UInt8 := [132, 6, 1, 167, 255, 226, 42, 180, 0, 210, 21, 5, 21, 6, 79, 21, 4, 42, 180, 0, 200, 21, 6, 46]
abbrev dktX4_gives_13 : List UInt8 := dkwX4_gives_13 ++ dktX4_gives_14
def dkwX4_gives_12 : List UInt8 := [21, 4, 21, 6, 182, 1, 238, 42, 180, 0, 204, 17, 25, 161, 21, 5, 104, 21, 4, 96, 46, 159, 0, 9]
abbrev dktX4_gives_12 : List UInt8 := dkwX4_gives_12 ++ dktX4_gives_13
def dkwX4_gives_11 : List UInt8 := [21, 5, 29, 162, 0, 78, 42, 180, 0, 204, 3, 46, 19, 1, 234, 162, 0, 66, 3, 54, 6, 42, 21, 5]
abbrev dktX4_gives_11 : List UInt8 := dkwX4_gives_11 ++ dktX4_gives_12
def dkwX4_gives_10 : List UInt8 := [21, 5, 96, 21, 6, 79, 132, 5, 1, 167, 255, 178, 132, 4, 255, 167, 255, 164, 3, 54, 4, 3, 54, 5]
abbrev dktX4_gives_10 : List UInt8 := dkwX4_gives_10 ++ dktX4_gives_11
def dkwX4_gives_9 : List UInt8 := [167, 0, 5, 21, 6, 54, 6, 132, 7, 1, 167, 255, 216, 42, 180, 0, 204, 17, 25, 161, 21, 4, 104]
abbrev dktX4_gives_9 : List UInt8 := dkwX4_gives_9 ++ dktX4_gives_10
def dkwX4_gives_8 : List UInt8 := [162, 0, 37, 42, 21, 4, 21, 5, 21, 7, 182, 1, 238, 54, 8, 21, 8, 21, 6, 162, 0, 8, 21, 8]
abbrev dktX4_gives_8 : List UInt8 := dkwX4_gives_8 ++ dktX4_gives_9
def dkwX4_gives_7 : List UInt8 := [21, 5, 17, 25, 161, 162, 0, 76, 19, 1, 234, 54, 6, 3, 54, 7, 21, 7, 42, 180, 1, 113]
abbrev dktX4_gives_7 : List UInt8 := dkwX4_gives_7 ++ dktX4_gives_8
def dkwX4_gives_6 : List UInt8 := [21, 4, 96, 3, 79, 132, 4, 1, 167, 255, 231, 29, 4, 100, 54, 4, 21, 4, 155, 0, 93, 3, 54, 5]
abbrev dktX4_gives_6 : List UInt8 := dkwX4_gives_6 ++ dktX4_gives_7
def dkwX4_gives_5 : List UInt8 := [167, 255, 182, 3, 54, 4, 21, 4, 17, 25, 161, 162, 0, 23, 42, 180, 0, 204, 17, 25, 161, 29, 104]
abbrev dktX4_gives_5 : List UInt8 := dkwX4_gives_5 ++ dktX4_gives_6
def dkwX4_gives_4 : List UInt8 := [180, 0, 207, 21, 4, 46, 182, 1, 235, 167, 0, 4, 2, 79, 132, 5, 1, 167, 255, 197, 132, 4, 1]
abbrev dktX4_gives_4 : List UInt8 := dkwX4_gives_4 ++ dktX4_gives_5
def dkwX4_gives_3 : List UInt8 := [21, 5, 96, 42, 21, 5, 42, 180, 0, 207, 21, 4, 46, 28, 182, 1, 231, 153, 0, 19, 42, 21, 5, 42]
abbrev dktX4_gives_3 : List UInt8 := dkwX4_gives_3 ++ dktX4_gives_4
def dkwX4_gives_2 : List UInt8 := [162, 0, 74, 3, 54, 5, 21, 5, 42, 180, 1, 113, 162, 0, 56, 42, 180, 0, 213, 16, 8, 21, 4, 104]
abbrev dktX4_gives_2 : List UInt8 := dkwX4_gives_2 ++ dktX4_gives_3
def dkwX4_gives_1 : List UInt8 := [42, 180, 0, 207, 29, 21, 4, 79, 132, 3, 1, 132, 4, 1, 167, 255, 223, 3, 54, 4, 21, 4, 29]
abbrev dktX4_gives_1 : List UInt8 := dkwX4_gives_1 ++ dktX4_gives_2
def dkwX4_gives_0 : List UInt8 := [3, 62, 3, 54, 4, 21, 4, 42, 180, 1, 110, 162, 0, 30, 27, 21, 4, 122, 4, 126, 4, 160, 0, 14]
abbrev dktX4_gives_0 : List UInt8 := dkwX4_gives_0 ++ dktX4_gives_1
theorem dksX4_gives_0 : cX4_gives.data.toList.drop 0 = dktX4_gives_0 := by decide +kernel
theorem dksX4_gives_1 : cX4_gives.data.toList.drop 24 = dktX4_gives_1 := dk_seg dksX4_gives_0 24 rfl rfl
theorem dksX4_gives_2 : cX4_gives.data.toList.drop 47 = dktX4_gives_2 := dk_seg dksX4_gives_1 23 rfl rfl
theorem dksX4_gives_3 : cX4_gives.data.toList.drop 71 = dktX4_gives_3 := dk_seg dksX4_gives_2 24 rfl rfl
theorem dksX4_gives_4 : cX4_gives.data.toList.drop 95 = dktX4_gives_4 := dk_seg dksX4_gives_3 24 rfl rfl
theorem dksX4_gives_5 : cX4_gives.data.toList.drop 118 = dktX4_gives_5 := dk_seg dksX4_gives_4 23 rfl rfl
theorem dksX4_gives_6 : cX4_gives.data.toList.drop 141 = dktX4_gives_6 := dk_seg dksX4_gives_5 23 rfl rfl
theorem dksX4_gives_7 : cX4_gives.data.toList.drop 165 = dktX4_gives_7 := dk_seg dksX4_gives_6 24 rfl rfl
theorem dksX4_gives_8 : cX4_gives.data.toList.drop 187 = dktX4_gives_8 := dk_seg dksX4_gives_7 22 rfl rfl
theorem dksX4_gives_9 : cX4_gives.data.toList.drop 211 = dktX4_gives_9 := dk_seg dksX4_gives_8 24 rfl rfl
theorem dksX4_gives_10 : cX4_gives.data.toList.drop 234 = dktX4_gives_10 := dk_seg dksX4_gives_9 23 rfl rfl
theorem dksX4_gives_11 : cX4_gives.data.toList.drop 258 = dktX4_gives_11 := dk_seg dksX4_gives_10 24 rfl rfl
theorem dksX4_gives_12 : cX4_gives.data.toList.drop 282 = dktX4_gives_12 := dk_seg dksX4_gives_11 24 rfl rfl
theorem dksX4_gives_13 : cX4_gives.data.toList.drop 306 = dktX4_gives_13 := dk_seg dksX4_gives_12 24 rfl rfl
theorem dksX4_gives_14 : cX4_gives.data.toList.drop 330 = dktX4_gives_14 := dk_seg dksX4_gives_13 24 rfl rfl
theorem dX4_gives_0 : decode cX4_gives 0 = .ok (.iconst 0, 1) := dk_3 (dk_at dksX4_gives_0 0 rfl rfl)
theorem dX4_gives_1 : decode cX4_gives 1 = .ok (.istore_n 3, 1) := dk_62 (dk_at dksX4_gives_0 1 rfl rfl)
theorem dX4_gives_2 : decode cX4_gives 2 = .ok (.iconst 0, 1) := dk_3 (dk_at dksX4_gives_0 2 rfl rfl)
theorem dX4_gives_3 : decode cX4_gives 3 = .ok (.istore 4, 2) := dk_54 4 (dk_at dksX4_gives_0 3 rfl rfl)
theorem dX4_gives_5 : decode cX4_gives 5 = .ok (.iload 4, 2) := dk_21 4 (dk_at dksX4_gives_0 5 rfl rfl)
theorem dX4_gives_7 : decode cX4_gives 7 = .ok (.aload_n 0, 1) := dk_42 (dk_at dksX4_gives_0 7 rfl rfl)
theorem dX4_gives_8 : decode cX4_gives 8 = .ok (.getfield 366, 3) := dk_180 1 110 (dk_at dksX4_gives_0 8 rfl rfl)
theorem dX4_gives_11 : decode cX4_gives 11 = .ok (.if_icmp .ge 30, 3) := dk_162 0 30 (dk_at dksX4_gives_0 11 rfl rfl)
theorem dX4_gives_14 : decode cX4_gives 14 = .ok (.iload_n 1, 1) := dk_27 (dk_at dksX4_gives_0 14 rfl rfl)
theorem dX4_gives_15 : decode cX4_gives 15 = .ok (.iload 4, 2) := dk_21 4 (dk_at dksX4_gives_0 15 rfl rfl)
theorem dX4_gives_17 : decode cX4_gives 17 = .ok (.ishr, 1) := dk_122 (dk_at dksX4_gives_0 17 rfl rfl)
theorem dX4_gives_18 : decode cX4_gives 18 = .ok (.iconst 1, 1) := dk_4 (dk_at dksX4_gives_0 18 rfl rfl)
theorem dX4_gives_19 : decode cX4_gives 19 = .ok (.iand, 1) := dk_126 (dk_at dksX4_gives_0 19 rfl rfl)
theorem dX4_gives_20 : decode cX4_gives 20 = .ok (.iconst 1, 1) := dk_4 (dk_at dksX4_gives_0 20 rfl rfl)
theorem dX4_gives_21 : decode cX4_gives 21 = .ok (.if_icmp .ne 14, 3) := dk_160 0 14 (dk_at dksX4_gives_0 21 rfl rfl)
theorem dX4_gives_24 : decode cX4_gives 24 = .ok (.aload_n 0, 1) := dk_42 (dk_at dksX4_gives_1 0 rfl rfl)
theorem dX4_gives_25 : decode cX4_gives 25 = .ok (.getfield 207, 3) := dk_180 0 207 (dk_at dksX4_gives_1 1 rfl rfl)
theorem dX4_gives_28 : decode cX4_gives 28 = .ok (.iload_n 3, 1) := dk_29 (dk_at dksX4_gives_1 4 rfl rfl)
theorem dX4_gives_29 : decode cX4_gives 29 = .ok (.iload 4, 2) := dk_21 4 (dk_at dksX4_gives_1 5 rfl rfl)
theorem dX4_gives_31 : decode cX4_gives 31 = .ok (.iastore, 1) := dk_79 (dk_at dksX4_gives_1 7 rfl rfl)
theorem dX4_gives_32 : decode cX4_gives 32 = .ok (.iinc 3 1, 3) := dk_132 3 1 (dk_at dksX4_gives_1 8 rfl rfl)
theorem dX4_gives_35 : decode cX4_gives 35 = .ok (.iinc 4 1, 3) := dk_132 4 1 (dk_at dksX4_gives_1 11 rfl rfl)
theorem dX4_gives_38 : decode cX4_gives 38 = .ok (.goto (-33), 3) := dk_167 255 223 (dk_at dksX4_gives_1 14 rfl rfl)
theorem dX4_gives_41 : decode cX4_gives 41 = .ok (.iconst 0, 1) := dk_3 (dk_at dksX4_gives_1 17 rfl rfl)
theorem dX4_gives_42 : decode cX4_gives 42 = .ok (.istore 4, 2) := dk_54 4 (dk_at dksX4_gives_1 18 rfl rfl)
theorem dX4_gives_44 : decode cX4_gives 44 = .ok (.iload 4, 2) := dk_21 4 (dk_at dksX4_gives_1 20 rfl rfl)
theorem dX4_gives_46 : decode cX4_gives 46 = .ok (.iload_n 3, 1) := dk_29 (dk_at dksX4_gives_1 22 rfl rfl)
theorem dX4_gives_47 : decode cX4_gives 47 = .ok (.if_icmp .ge 74, 3) := dk_162 0 74 (dk_at dksX4_gives_2 0 rfl rfl)
theorem dX4_gives_50 : decode cX4_gives 50 = .ok (.iconst 0, 1) := dk_3 (dk_at dksX4_gives_2 3 rfl rfl)
theorem dX4_gives_51 : decode cX4_gives 51 = .ok (.istore 5, 2) := dk_54 5 (dk_at dksX4_gives_2 4 rfl rfl)
theorem dX4_gives_53 : decode cX4_gives 53 = .ok (.iload 5, 2) := dk_21 5 (dk_at dksX4_gives_2 6 rfl rfl)
theorem dX4_gives_55 : decode cX4_gives 55 = .ok (.aload_n 0, 1) := dk_42 (dk_at dksX4_gives_2 8 rfl rfl)
theorem dX4_gives_56 : decode cX4_gives 56 = .ok (.getfield 369, 3) := dk_180 1 113 (dk_at dksX4_gives_2 9 rfl rfl)
theorem dX4_gives_59 : decode cX4_gives 59 = .ok (.if_icmp .ge 56, 3) := dk_162 0 56 (dk_at dksX4_gives_2 12 rfl rfl)
theorem dX4_gives_62 : decode cX4_gives 62 = .ok (.aload_n 0, 1) := dk_42 (dk_at dksX4_gives_2 15 rfl rfl)
theorem dX4_gives_63 : decode cX4_gives 63 = .ok (.getfield 213, 3) := dk_180 0 213 (dk_at dksX4_gives_2 16 rfl rfl)
theorem dX4_gives_66 : decode cX4_gives 66 = .ok (.bipush 8, 2) := dk_16 8 (dk_at dksX4_gives_2 19 rfl rfl)
theorem dX4_gives_68 : decode cX4_gives 68 = .ok (.iload 4, 2) := dk_21 4 (dk_at dksX4_gives_2 21 rfl rfl)
theorem dX4_gives_70 : decode cX4_gives 70 = .ok (.imul, 1) := dk_104 (dk_at dksX4_gives_2 23 rfl rfl)
theorem dX4_gives_71 : decode cX4_gives 71 = .ok (.iload 5, 2) := dk_21 5 (dk_at dksX4_gives_3 0 rfl rfl)
theorem dX4_gives_73 : decode cX4_gives 73 = .ok (.iadd, 1) := dk_96 (dk_at dksX4_gives_3 2 rfl rfl)
theorem dX4_gives_74 : decode cX4_gives 74 = .ok (.aload_n 0, 1) := dk_42 (dk_at dksX4_gives_3 3 rfl rfl)
theorem dX4_gives_75 : decode cX4_gives 75 = .ok (.iload 5, 2) := dk_21 5 (dk_at dksX4_gives_3 4 rfl rfl)
theorem dX4_gives_77 : decode cX4_gives 77 = .ok (.aload_n 0, 1) := dk_42 (dk_at dksX4_gives_3 6 rfl rfl)
theorem dX4_gives_78 : decode cX4_gives 78 = .ok (.getfield 207, 3) := dk_180 0 207 (dk_at dksX4_gives_3 7 rfl rfl)
theorem dX4_gives_81 : decode cX4_gives 81 = .ok (.iload 4, 2) := dk_21 4 (dk_at dksX4_gives_3 10 rfl rfl)
theorem dX4_gives_83 : decode cX4_gives 83 = .ok (.iaload, 1) := dk_46 (dk_at dksX4_gives_3 12 rfl rfl)
theorem dX4_gives_84 : decode cX4_gives 84 = .ok (.iload_n 2, 1) := dk_28 (dk_at dksX4_gives_3 13 rfl rfl)
theorem dX4_gives_85 : decode cX4_gives 85 = .ok (.invokevirtual 487, 3) := dk_182 1 231 (dk_at dksX4_gives_3 14 rfl rfl)
theorem dX4_gives_88 : decode cX4_gives 88 = .ok (.ifCond .eq 19, 3) := dk_153 0 19 (dk_at dksX4_gives_3 17 rfl rfl)
theorem dX4_gives_91 : decode cX4_gives 91 = .ok (.aload_n 0, 1) := dk_42 (dk_at dksX4_gives_3 20 rfl rfl)
theorem dX4_gives_92 : decode cX4_gives 92 = .ok (.iload 5, 2) := dk_21 5 (dk_at dksX4_gives_3 21 rfl rfl)
theorem dX4_gives_94 : decode cX4_gives 94 = .ok (.aload_n 0, 1) := dk_42 (dk_at dksX4_gives_3 23 rfl rfl)
theorem dX4_gives_95 : decode cX4_gives 95 = .ok (.getfield 207, 3) := dk_180 0 207 (dk_at dksX4_gives_4 0 rfl rfl)
theorem dX4_gives_98 : decode cX4_gives 98 = .ok (.iload 4, 2) := dk_21 4 (dk_at dksX4_gives_4 3 rfl rfl)
theorem dX4_gives_100 : decode cX4_gives 100 = .ok (.iaload, 1) := dk_46 (dk_at dksX4_gives_4 5 rfl rfl)
theorem dX4_gives_101 : decode cX4_gives 101 = .ok (.invokevirtual 491, 3) := dk_182 1 235 (dk_at dksX4_gives_4 6 rfl rfl)
theorem dX4_gives_104 : decode cX4_gives 104 = .ok (.goto 4, 3) := dk_167 0 4 (dk_at dksX4_gives_4 9 rfl rfl)
theorem dX4_gives_107 : decode cX4_gives 107 = .ok (.iconst (-1), 1) := dk_2 (dk_at dksX4_gives_4 12 rfl rfl)
theorem dX4_gives_108 : decode cX4_gives 108 = .ok (.iastore, 1) := dk_79 (dk_at dksX4_gives_4 13 rfl rfl)
theorem dX4_gives_109 : decode cX4_gives 109 = .ok (.iinc 5 1, 3) := dk_132 5 1 (dk_at dksX4_gives_4 14 rfl rfl)
theorem dX4_gives_112 : decode cX4_gives 112 = .ok (.goto (-59), 3) := dk_167 255 197 (dk_at dksX4_gives_4 17 rfl rfl)
theorem dX4_gives_115 : decode cX4_gives 115 = .ok (.iinc 4 1, 3) := dk_132 4 1 (dk_at dksX4_gives_4 20 rfl rfl)
theorem dX4_gives_118 : decode cX4_gives 118 = .ok (.goto (-74), 3) := dk_167 255 182 (dk_at dksX4_gives_5 0 rfl rfl)
theorem dX4_gives_121 : decode cX4_gives 121 = .ok (.iconst 0, 1) := dk_3 (dk_at dksX4_gives_5 3 rfl rfl)
theorem dX4_gives_122 : decode cX4_gives 122 = .ok (.istore 4, 2) := dk_54 4 (dk_at dksX4_gives_5 4 rfl rfl)
theorem dX4_gives_124 : decode cX4_gives 124 = .ok (.iload 4, 2) := dk_21 4 (dk_at dksX4_gives_5 6 rfl rfl)
theorem dX4_gives_126 : decode cX4_gives 126 = .ok (.sipush 6561, 3) := dk_17 25 161 (dk_at dksX4_gives_5 8 rfl rfl)
theorem dX4_gives_129 : decode cX4_gives 129 = .ok (.if_icmp .ge 23, 3) := dk_162 0 23 (dk_at dksX4_gives_5 11 rfl rfl)
theorem dX4_gives_132 : decode cX4_gives 132 = .ok (.aload_n 0, 1) := dk_42 (dk_at dksX4_gives_5 14 rfl rfl)
theorem dX4_gives_133 : decode cX4_gives 133 = .ok (.getfield 204, 3) := dk_180 0 204 (dk_at dksX4_gives_5 15 rfl rfl)
theorem dX4_gives_136 : decode cX4_gives 136 = .ok (.sipush 6561, 3) := dk_17 25 161 (dk_at dksX4_gives_5 18 rfl rfl)
theorem dX4_gives_139 : decode cX4_gives 139 = .ok (.iload_n 3, 1) := dk_29 (dk_at dksX4_gives_5 21 rfl rfl)
theorem dX4_gives_140 : decode cX4_gives 140 = .ok (.imul, 1) := dk_104 (dk_at dksX4_gives_5 22 rfl rfl)
theorem dX4_gives_141 : decode cX4_gives 141 = .ok (.iload 4, 2) := dk_21 4 (dk_at dksX4_gives_6 0 rfl rfl)
theorem dX4_gives_143 : decode cX4_gives 143 = .ok (.iadd, 1) := dk_96 (dk_at dksX4_gives_6 2 rfl rfl)
theorem dX4_gives_144 : decode cX4_gives 144 = .ok (.iconst 0, 1) := dk_3 (dk_at dksX4_gives_6 3 rfl rfl)
theorem dX4_gives_145 : decode cX4_gives 145 = .ok (.iastore, 1) := dk_79 (dk_at dksX4_gives_6 4 rfl rfl)
theorem dX4_gives_146 : decode cX4_gives 146 = .ok (.iinc 4 1, 3) := dk_132 4 1 (dk_at dksX4_gives_6 5 rfl rfl)
theorem dX4_gives_149 : decode cX4_gives 149 = .ok (.goto (-25), 3) := dk_167 255 231 (dk_at dksX4_gives_6 8 rfl rfl)
theorem dX4_gives_152 : decode cX4_gives 152 = .ok (.iload_n 3, 1) := dk_29 (dk_at dksX4_gives_6 11 rfl rfl)
theorem dX4_gives_153 : decode cX4_gives 153 = .ok (.iconst 1, 1) := dk_4 (dk_at dksX4_gives_6 12 rfl rfl)
theorem dX4_gives_154 : decode cX4_gives 154 = .ok (.isub, 1) := dk_100 (dk_at dksX4_gives_6 13 rfl rfl)
theorem dX4_gives_155 : decode cX4_gives 155 = .ok (.istore 4, 2) := dk_54 4 (dk_at dksX4_gives_6 14 rfl rfl)
theorem dX4_gives_157 : decode cX4_gives 157 = .ok (.iload 4, 2) := dk_21 4 (dk_at dksX4_gives_6 16 rfl rfl)
theorem dX4_gives_159 : decode cX4_gives 159 = .ok (.ifCond .lt 93, 3) := dk_155 0 93 (dk_at dksX4_gives_6 18 rfl rfl)
theorem dX4_gives_162 : decode cX4_gives 162 = .ok (.iconst 0, 1) := dk_3 (dk_at dksX4_gives_6 21 rfl rfl)
theorem dX4_gives_163 : decode cX4_gives 163 = .ok (.istore 5, 2) := dk_54 5 (dk_at dksX4_gives_6 22 rfl rfl)
theorem dX4_gives_165 : decode cX4_gives 165 = .ok (.iload 5, 2) := dk_21 5 (dk_at dksX4_gives_7 0 rfl rfl)
theorem dX4_gives_167 : decode cX4_gives 167 = .ok (.sipush 6561, 3) := dk_17 25 161 (dk_at dksX4_gives_7 2 rfl rfl)
theorem dX4_gives_170 : decode cX4_gives 170 = .ok (.if_icmp .ge 76, 3) := dk_162 0 76 (dk_at dksX4_gives_7 5 rfl rfl)
theorem dX4_gives_173 : decode cX4_gives 173 = .ok (.ldc_w 490, 3) := dk_19 1 234 (dk_at dksX4_gives_7 8 rfl rfl)
theorem dX4_gives_176 : decode cX4_gives 176 = .ok (.istore 6, 2) := dk_54 6 (dk_at dksX4_gives_7 11 rfl rfl)
theorem dX4_gives_178 : decode cX4_gives 178 = .ok (.iconst 0, 1) := dk_3 (dk_at dksX4_gives_7 13 rfl rfl)
theorem dX4_gives_179 : decode cX4_gives 179 = .ok (.istore 7, 2) := dk_54 7 (dk_at dksX4_gives_7 14 rfl rfl)
theorem dX4_gives_181 : decode cX4_gives 181 = .ok (.iload 7, 2) := dk_21 7 (dk_at dksX4_gives_7 16 rfl rfl)
theorem dX4_gives_183 : decode cX4_gives 183 = .ok (.aload_n 0, 1) := dk_42 (dk_at dksX4_gives_7 18 rfl rfl)
theorem dX4_gives_184 : decode cX4_gives 184 = .ok (.getfield 369, 3) := dk_180 1 113 (dk_at dksX4_gives_7 19 rfl rfl)
theorem dX4_gives_187 : decode cX4_gives 187 = .ok (.if_icmp .ge 37, 3) := dk_162 0 37 (dk_at dksX4_gives_8 0 rfl rfl)
theorem dX4_gives_190 : decode cX4_gives 190 = .ok (.aload_n 0, 1) := dk_42 (dk_at dksX4_gives_8 3 rfl rfl)
theorem dX4_gives_191 : decode cX4_gives 191 = .ok (.iload 4, 2) := dk_21 4 (dk_at dksX4_gives_8 4 rfl rfl)
theorem dX4_gives_193 : decode cX4_gives 193 = .ok (.iload 5, 2) := dk_21 5 (dk_at dksX4_gives_8 6 rfl rfl)
theorem dX4_gives_195 : decode cX4_gives 195 = .ok (.iload 7, 2) := dk_21 7 (dk_at dksX4_gives_8 8 rfl rfl)
theorem dX4_gives_197 : decode cX4_gives 197 = .ok (.invokevirtual 494, 3) := dk_182 1 238 (dk_at dksX4_gives_8 10 rfl rfl)
theorem dX4_gives_200 : decode cX4_gives 200 = .ok (.istore 8, 2) := dk_54 8 (dk_at dksX4_gives_8 13 rfl rfl)
theorem dX4_gives_202 : decode cX4_gives 202 = .ok (.iload 8, 2) := dk_21 8 (dk_at dksX4_gives_8 15 rfl rfl)
theorem dX4_gives_204 : decode cX4_gives 204 = .ok (.iload 6, 2) := dk_21 6 (dk_at dksX4_gives_8 17 rfl rfl)
theorem dX4_gives_206 : decode cX4_gives 206 = .ok (.if_icmp .ge 8, 3) := dk_162 0 8 (dk_at dksX4_gives_8 19 rfl rfl)
theorem dX4_gives_209 : decode cX4_gives 209 = .ok (.iload 8, 2) := dk_21 8 (dk_at dksX4_gives_8 22 rfl rfl)
theorem dX4_gives_211 : decode cX4_gives 211 = .ok (.goto 5, 3) := dk_167 0 5 (dk_at dksX4_gives_9 0 rfl rfl)
theorem dX4_gives_214 : decode cX4_gives 214 = .ok (.iload 6, 2) := dk_21 6 (dk_at dksX4_gives_9 3 rfl rfl)
theorem dX4_gives_216 : decode cX4_gives 216 = .ok (.istore 6, 2) := dk_54 6 (dk_at dksX4_gives_9 5 rfl rfl)
theorem dX4_gives_218 : decode cX4_gives 218 = .ok (.iinc 7 1, 3) := dk_132 7 1 (dk_at dksX4_gives_9 7 rfl rfl)
theorem dX4_gives_221 : decode cX4_gives 221 = .ok (.goto (-40), 3) := dk_167 255 216 (dk_at dksX4_gives_9 10 rfl rfl)
theorem dX4_gives_224 : decode cX4_gives 224 = .ok (.aload_n 0, 1) := dk_42 (dk_at dksX4_gives_9 13 rfl rfl)
theorem dX4_gives_225 : decode cX4_gives 225 = .ok (.getfield 204, 3) := dk_180 0 204 (dk_at dksX4_gives_9 14 rfl rfl)
theorem dX4_gives_228 : decode cX4_gives 228 = .ok (.sipush 6561, 3) := dk_17 25 161 (dk_at dksX4_gives_9 17 rfl rfl)
theorem dX4_gives_231 : decode cX4_gives 231 = .ok (.iload 4, 2) := dk_21 4 (dk_at dksX4_gives_9 20 rfl rfl)
theorem dX4_gives_233 : decode cX4_gives 233 = .ok (.imul, 1) := dk_104 (dk_at dksX4_gives_9 22 rfl rfl)
theorem dX4_gives_234 : decode cX4_gives 234 = .ok (.iload 5, 2) := dk_21 5 (dk_at dksX4_gives_10 0 rfl rfl)
theorem dX4_gives_236 : decode cX4_gives 236 = .ok (.iadd, 1) := dk_96 (dk_at dksX4_gives_10 2 rfl rfl)
theorem dX4_gives_237 : decode cX4_gives 237 = .ok (.iload 6, 2) := dk_21 6 (dk_at dksX4_gives_10 3 rfl rfl)
theorem dX4_gives_239 : decode cX4_gives 239 = .ok (.iastore, 1) := dk_79 (dk_at dksX4_gives_10 5 rfl rfl)
theorem dX4_gives_240 : decode cX4_gives 240 = .ok (.iinc 5 1, 3) := dk_132 5 1 (dk_at dksX4_gives_10 6 rfl rfl)
theorem dX4_gives_243 : decode cX4_gives 243 = .ok (.goto (-78), 3) := dk_167 255 178 (dk_at dksX4_gives_10 9 rfl rfl)
theorem dX4_gives_246 : decode cX4_gives 246 = .ok (.iinc 4 (-1), 3) := dk_132 4 255 (dk_at dksX4_gives_10 12 rfl rfl)
theorem dX4_gives_249 : decode cX4_gives 249 = .ok (.goto (-92), 3) := dk_167 255 164 (dk_at dksX4_gives_10 15 rfl rfl)
theorem dX4_gives_252 : decode cX4_gives 252 = .ok (.iconst 0, 1) := dk_3 (dk_at dksX4_gives_10 18 rfl rfl)
theorem dX4_gives_253 : decode cX4_gives 253 = .ok (.istore 4, 2) := dk_54 4 (dk_at dksX4_gives_10 19 rfl rfl)
theorem dX4_gives_255 : decode cX4_gives 255 = .ok (.iconst 0, 1) := dk_3 (dk_at dksX4_gives_10 21 rfl rfl)
theorem dX4_gives_256 : decode cX4_gives 256 = .ok (.istore 5, 2) := dk_54 5 (dk_at dksX4_gives_10 22 rfl rfl)
theorem dX4_gives_258 : decode cX4_gives 258 = .ok (.iload 5, 2) := dk_21 5 (dk_at dksX4_gives_11 0 rfl rfl)
theorem dX4_gives_260 : decode cX4_gives 260 = .ok (.iload_n 3, 1) := dk_29 (dk_at dksX4_gives_11 2 rfl rfl)
theorem dX4_gives_261 : decode cX4_gives 261 = .ok (.if_icmp .ge 78, 3) := dk_162 0 78 (dk_at dksX4_gives_11 3 rfl rfl)
theorem dX4_gives_264 : decode cX4_gives 264 = .ok (.aload_n 0, 1) := dk_42 (dk_at dksX4_gives_11 6 rfl rfl)
theorem dX4_gives_265 : decode cX4_gives 265 = .ok (.getfield 204, 3) := dk_180 0 204 (dk_at dksX4_gives_11 7 rfl rfl)
theorem dX4_gives_268 : decode cX4_gives 268 = .ok (.iconst 0, 1) := dk_3 (dk_at dksX4_gives_11 10 rfl rfl)
theorem dX4_gives_269 : decode cX4_gives 269 = .ok (.iaload, 1) := dk_46 (dk_at dksX4_gives_11 11 rfl rfl)
theorem dX4_gives_270 : decode cX4_gives 270 = .ok (.ldc_w 490, 3) := dk_19 1 234 (dk_at dksX4_gives_11 12 rfl rfl)
theorem dX4_gives_273 : decode cX4_gives 273 = .ok (.if_icmp .ge 66, 3) := dk_162 0 66 (dk_at dksX4_gives_11 15 rfl rfl)
theorem dX4_gives_276 : decode cX4_gives 276 = .ok (.iconst 0, 1) := dk_3 (dk_at dksX4_gives_11 18 rfl rfl)
theorem dX4_gives_277 : decode cX4_gives 277 = .ok (.istore 6, 2) := dk_54 6 (dk_at dksX4_gives_11 19 rfl rfl)
theorem dX4_gives_279 : decode cX4_gives 279 = .ok (.aload_n 0, 1) := dk_42 (dk_at dksX4_gives_11 21 rfl rfl)
theorem dX4_gives_280 : decode cX4_gives 280 = .ok (.iload 5, 2) := dk_21 5 (dk_at dksX4_gives_11 22 rfl rfl)
theorem dX4_gives_282 : decode cX4_gives 282 = .ok (.iload 4, 2) := dk_21 4 (dk_at dksX4_gives_12 0 rfl rfl)
theorem dX4_gives_284 : decode cX4_gives 284 = .ok (.iload 6, 2) := dk_21 6 (dk_at dksX4_gives_12 2 rfl rfl)
theorem dX4_gives_286 : decode cX4_gives 286 = .ok (.invokevirtual 494, 3) := dk_182 1 238 (dk_at dksX4_gives_12 4 rfl rfl)
theorem dX4_gives_289 : decode cX4_gives 289 = .ok (.aload_n 0, 1) := dk_42 (dk_at dksX4_gives_12 7 rfl rfl)
theorem dX4_gives_290 : decode cX4_gives 290 = .ok (.getfield 204, 3) := dk_180 0 204 (dk_at dksX4_gives_12 8 rfl rfl)
theorem dX4_gives_293 : decode cX4_gives 293 = .ok (.sipush 6561, 3) := dk_17 25 161 (dk_at dksX4_gives_12 11 rfl rfl)
theorem dX4_gives_296 : decode cX4_gives 296 = .ok (.iload 5, 2) := dk_21 5 (dk_at dksX4_gives_12 14 rfl rfl)
theorem dX4_gives_298 : decode cX4_gives 298 = .ok (.imul, 1) := dk_104 (dk_at dksX4_gives_12 16 rfl rfl)
theorem dX4_gives_299 : decode cX4_gives 299 = .ok (.iload 4, 2) := dk_21 4 (dk_at dksX4_gives_12 17 rfl rfl)
theorem dX4_gives_301 : decode cX4_gives 301 = .ok (.iadd, 1) := dk_96 (dk_at dksX4_gives_12 19 rfl rfl)
theorem dX4_gives_302 : decode cX4_gives 302 = .ok (.iaload, 1) := dk_46 (dk_at dksX4_gives_12 20 rfl rfl)
theorem dX4_gives_303 : decode cX4_gives 303 = .ok (.if_icmp .eq 9, 3) := dk_159 0 9 (dk_at dksX4_gives_12 21 rfl rfl)
theorem dX4_gives_306 : decode cX4_gives 306 = .ok (.iinc 6 1, 3) := dk_132 6 1 (dk_at dksX4_gives_13 0 rfl rfl)
theorem dX4_gives_309 : decode cX4_gives 309 = .ok (.goto (-30), 3) := dk_167 255 226 (dk_at dksX4_gives_13 3 rfl rfl)
theorem dX4_gives_312 : decode cX4_gives 312 = .ok (.aload_n 0, 1) := dk_42 (dk_at dksX4_gives_13 6 rfl rfl)
theorem dX4_gives_313 : decode cX4_gives 313 = .ok (.getfield 210, 3) := dk_180 0 210 (dk_at dksX4_gives_13 7 rfl rfl)
theorem dX4_gives_316 : decode cX4_gives 316 = .ok (.iload 5, 2) := dk_21 5 (dk_at dksX4_gives_13 10 rfl rfl)
theorem dX4_gives_318 : decode cX4_gives 318 = .ok (.iload 6, 2) := dk_21 6 (dk_at dksX4_gives_13 12 rfl rfl)
theorem dX4_gives_320 : decode cX4_gives 320 = .ok (.iastore, 1) := dk_79 (dk_at dksX4_gives_13 14 rfl rfl)
theorem dX4_gives_321 : decode cX4_gives 321 = .ok (.iload 4, 2) := dk_21 4 (dk_at dksX4_gives_13 15 rfl rfl)
theorem dX4_gives_323 : decode cX4_gives 323 = .ok (.aload_n 0, 1) := dk_42 (dk_at dksX4_gives_13 17 rfl rfl)
theorem dX4_gives_324 : decode cX4_gives 324 = .ok (.getfield 200, 3) := dk_180 0 200 (dk_at dksX4_gives_13 18 rfl rfl)
theorem dX4_gives_327 : decode cX4_gives 327 = .ok (.iload 6, 2) := dk_21 6 (dk_at dksX4_gives_13 21 rfl rfl)
theorem dX4_gives_329 : decode cX4_gives 329 = .ok (.iaload, 1) := dk_46 (dk_at dksX4_gives_13 23 rfl rfl)
theorem dX4_gives_330 : decode cX4_gives 330 = .ok (.iadd, 1) := dk_96 (dk_at dksX4_gives_14 0 rfl rfl)
theorem dX4_gives_331 : decode cX4_gives 331 = .ok (.istore 4, 2) := dk_54 4 (dk_at dksX4_gives_14 1 rfl rfl)
theorem dX4_gives_333 : decode cX4_gives 333 = .ok (.iinc 5 1, 3) := dk_132 5 1 (dk_at dksX4_gives_14 3 rfl rfl)
theorem dX4_gives_336 : decode cX4_gives 336 = .ok (.goto (-78), 3) := dk_167 255 178 (dk_at dksX4_gives_14 6 rfl rfl)
theorem dX4_gives_339 : decode cX4_gives 339 = .ok (.iload_n 3, 1) := dk_29 (dk_at dksX4_gives_14 9 rfl rfl)
theorem dX4_gives_340 : decode cX4_gives 340 = .ok (.ireturn, 1) := dk_172 (dk_at dksX4_gives_14 10 rfl rfl)
abbrev cX4_wayOf : ByteArray := prog_21_method_86_code
def yX4_wayOf : MethodName := ⟨RX4, "wayOf", "(II)I"⟩
def dkwX4_wayOf_1 : List UInt8 := [184, 1, 175, 172]
abbrev dktX4_wayOf_1 : List UInt8 := dkwX4_wayOf_1 ++ []
def dkwX4_wayOf_0 : List UInt8 := [42, 180, 0, 128, 27, 46, 42, 180, 0, 131, 27, 46, 42, 180, 0, 109, 28, 46, 42, 180, 0, 112, 28, 46]
abbrev dktX4_wayOf_0 : List UInt8 := dkwX4_wayOf_0 ++ dktX4_wayOf_1
theorem dksX4_wayOf_0 : cX4_wayOf.data.toList.drop 0 = dktX4_wayOf_0 := by decide +kernel
theorem dksX4_wayOf_1 : cX4_wayOf.data.toList.drop 24 = dktX4_wayOf_1 := dk_seg dksX4_wayOf_0 24 rfl rfl
theorem dX4_wayOf_0 : decode cX4_wayOf 0 = .ok (.aload_n 0, 1) := dk_42 (dk_at dksX4_wayOf_0 0 rfl rfl)
theorem dX4_wayOf_1 : decode cX4_wayOf 1 = .ok (.getfield 128, 3) := dk_180 0 128 (dk_at dksX4_wayOf_0 1 rfl rfl)
theorem dX4_wayOf_4 : decode cX4_wayOf 4 = .ok (.iload_n 1, 1) := dk_27 (dk_at dksX4_wayOf_0 4 rfl rfl)
theorem dX4_wayOf_5 : decode cX4_wayOf 5 = .ok (.iaload, 1) := dk_46 (dk_at dksX4_wayOf_0 5 rfl rfl)
theorem dX4_wayOf_6 : decode cX4_wayOf 6 = .ok (.aload_n 0, 1) := dk_42 (dk_at dksX4_wayOf_0 6 rfl rfl)
theorem dX4_wayOf_7 : decode cX4_wayOf 7 = .ok (.getfield 131, 3) := dk_180 0 131 (dk_at dksX4_wayOf_0 7 rfl rfl)
theorem dX4_wayOf_10 : decode cX4_wayOf 10 = .ok (.iload_n 1, 1) := dk_27 (dk_at dksX4_wayOf_0 10 rfl rfl)
theorem dX4_wayOf_11 : decode cX4_wayOf 11 = .ok (.iaload, 1) := dk_46 (dk_at dksX4_wayOf_0 11 rfl rfl)
theorem dX4_wayOf_12 : decode cX4_wayOf 12 = .ok (.aload_n 0, 1) := dk_42 (dk_at dksX4_wayOf_0 12 rfl rfl)
theorem dX4_wayOf_13 : decode cX4_wayOf 13 = .ok (.getfield 109, 3) := dk_180 0 109 (dk_at dksX4_wayOf_0 13 rfl rfl)
theorem dX4_wayOf_16 : decode cX4_wayOf 16 = .ok (.iload_n 2, 1) := dk_28 (dk_at dksX4_wayOf_0 16 rfl rfl)
theorem dX4_wayOf_17 : decode cX4_wayOf 17 = .ok (.iaload, 1) := dk_46 (dk_at dksX4_wayOf_0 17 rfl rfl)
theorem dX4_wayOf_18 : decode cX4_wayOf 18 = .ok (.aload_n 0, 1) := dk_42 (dk_at dksX4_wayOf_0 18 rfl rfl)
theorem dX4_wayOf_19 : decode cX4_wayOf 19 = .ok (.getfield 112, 3) := dk_180 0 112 (dk_at dksX4_wayOf_0 19 rfl rfl)
theorem dX4_wayOf_22 : decode cX4_wayOf 22 = .ok (.iload_n 2, 1) := dk_28 (dk_at dksX4_wayOf_0 22 rfl rfl)
theorem dX4_wayOf_23 : decode cX4_wayOf 23 = .ok (.iaload, 1) := dk_46 (dk_at dksX4_wayOf_0 23 rfl rfl)
theorem dX4_wayOf_24 : decode cX4_wayOf 24 = .ok (.invokestatic 431, 3) := dk_184 1 175 (dk_at dksX4_wayOf_1 0 rfl rfl)
theorem dX4_wayOf_27 : decode cX4_wayOf 27 = .ok (.ireturn, 1) := dk_172 (dk_at dksX4_wayOf_1 3 rfl rfl)
abbrev cX4_sumBy : ByteArray := prog_21_method_87_code
def yX4_sumBy : MethodName := ⟨RX4, "sumBy", "(III)I"⟩
def dkwX4_sumBy_3 : List UInt8 := [21, 4, 42, 180, 0, 213, 16, 8, 27, 104, 29, 96, 46, 96, 172]
abbrev dktX4_sumBy_3 : List UInt8 := dkwX4_sumBy_3 ++ []
def dkwX4_sumBy_2 : List UInt8 := [180, 0, 200, 29, 46, 96, 46, 54, 4, 21, 4, 19, 1, 234, 160, 0, 9, 19, 1, 234, 167, 0, 17]
abbrev dktX4_sumBy_2 : List UInt8 := dkwX4_sumBy_2 ++ dktX4_sumBy_3
def dkwX4_sumBy_1 : List UInt8 := [5, 160, 0, 7, 19, 1, 234, 172, 42, 180, 0, 204, 17, 25, 161, 27, 4, 96, 104, 28, 96, 42]
abbrev dktX4_sumBy_1 : List UInt8 := dkwX4_sumBy_1 ++ dktX4_sumBy_2
def dkwX4_sumBy_0 : List UInt8 := [42, 180, 0, 213, 16, 8, 27, 104, 29, 96, 46, 155, 0, 17, 28, 42, 180, 0, 200, 29, 46, 108, 6, 112]
abbrev dktX4_sumBy_0 : List UInt8 := dkwX4_sumBy_0 ++ dktX4_sumBy_1
theorem dksX4_sumBy_0 : cX4_sumBy.data.toList.drop 0 = dktX4_sumBy_0 := by decide +kernel
theorem dksX4_sumBy_1 : cX4_sumBy.data.toList.drop 24 = dktX4_sumBy_1 := dk_seg dksX4_sumBy_0 24 rfl rfl
theorem dksX4_sumBy_2 : cX4_sumBy.data.toList.drop 46 = dktX4_sumBy_2 := dk_seg dksX4_sumBy_1 22 rfl rfl
theorem dksX4_sumBy_3 : cX4_sumBy.data.toList.drop 69 = dktX4_sumBy_3 := dk_seg dksX4_sumBy_2 23 rfl rfl
theorem dX4_sumBy_0 : decode cX4_sumBy 0 = .ok (.aload_n 0, 1) := dk_42 (dk_at dksX4_sumBy_0 0 rfl rfl)
theorem dX4_sumBy_1 : decode cX4_sumBy 1 = .ok (.getfield 213, 3) := dk_180 0 213 (dk_at dksX4_sumBy_0 1 rfl rfl)
theorem dX4_sumBy_4 : decode cX4_sumBy 4 = .ok (.bipush 8, 2) := dk_16 8 (dk_at dksX4_sumBy_0 4 rfl rfl)
theorem dX4_sumBy_6 : decode cX4_sumBy 6 = .ok (.iload_n 1, 1) := dk_27 (dk_at dksX4_sumBy_0 6 rfl rfl)
theorem dX4_sumBy_7 : decode cX4_sumBy 7 = .ok (.imul, 1) := dk_104 (dk_at dksX4_sumBy_0 7 rfl rfl)
theorem dX4_sumBy_8 : decode cX4_sumBy 8 = .ok (.iload_n 3, 1) := dk_29 (dk_at dksX4_sumBy_0 8 rfl rfl)
theorem dX4_sumBy_9 : decode cX4_sumBy 9 = .ok (.iadd, 1) := dk_96 (dk_at dksX4_sumBy_0 9 rfl rfl)
theorem dX4_sumBy_10 : decode cX4_sumBy 10 = .ok (.iaload, 1) := dk_46 (dk_at dksX4_sumBy_0 10 rfl rfl)
theorem dX4_sumBy_11 : decode cX4_sumBy 11 = .ok (.ifCond .lt 17, 3) := dk_155 0 17 (dk_at dksX4_sumBy_0 11 rfl rfl)
theorem dX4_sumBy_14 : decode cX4_sumBy 14 = .ok (.iload_n 2, 1) := dk_28 (dk_at dksX4_sumBy_0 14 rfl rfl)
theorem dX4_sumBy_15 : decode cX4_sumBy 15 = .ok (.aload_n 0, 1) := dk_42 (dk_at dksX4_sumBy_0 15 rfl rfl)
theorem dX4_sumBy_16 : decode cX4_sumBy 16 = .ok (.getfield 200, 3) := dk_180 0 200 (dk_at dksX4_sumBy_0 16 rfl rfl)
theorem dX4_sumBy_19 : decode cX4_sumBy 19 = .ok (.iload_n 3, 1) := dk_29 (dk_at dksX4_sumBy_0 19 rfl rfl)
theorem dX4_sumBy_20 : decode cX4_sumBy 20 = .ok (.iaload, 1) := dk_46 (dk_at dksX4_sumBy_0 20 rfl rfl)
theorem dX4_sumBy_21 : decode cX4_sumBy 21 = .ok (.idiv, 1) := dk_108 (dk_at dksX4_sumBy_0 21 rfl rfl)
theorem dX4_sumBy_22 : decode cX4_sumBy 22 = .ok (.iconst 3, 1) := dk_6 (dk_at dksX4_sumBy_0 22 rfl rfl)
theorem dX4_sumBy_23 : decode cX4_sumBy 23 = .ok (.irem, 1) := dk_112 (dk_at dksX4_sumBy_0 23 rfl rfl)
theorem dX4_sumBy_24 : decode cX4_sumBy 24 = .ok (.iconst 2, 1) := dk_5 (dk_at dksX4_sumBy_1 0 rfl rfl)
theorem dX4_sumBy_25 : decode cX4_sumBy 25 = .ok (.if_icmp .ne 7, 3) := dk_160 0 7 (dk_at dksX4_sumBy_1 1 rfl rfl)
theorem dX4_sumBy_28 : decode cX4_sumBy 28 = .ok (.ldc_w 490, 3) := dk_19 1 234 (dk_at dksX4_sumBy_1 4 rfl rfl)
theorem dX4_sumBy_31 : decode cX4_sumBy 31 = .ok (.ireturn, 1) := dk_172 (dk_at dksX4_sumBy_1 7 rfl rfl)
theorem dX4_sumBy_32 : decode cX4_sumBy 32 = .ok (.aload_n 0, 1) := dk_42 (dk_at dksX4_sumBy_1 8 rfl rfl)
theorem dX4_sumBy_33 : decode cX4_sumBy 33 = .ok (.getfield 204, 3) := dk_180 0 204 (dk_at dksX4_sumBy_1 9 rfl rfl)
theorem dX4_sumBy_36 : decode cX4_sumBy 36 = .ok (.sipush 6561, 3) := dk_17 25 161 (dk_at dksX4_sumBy_1 12 rfl rfl)
theorem dX4_sumBy_39 : decode cX4_sumBy 39 = .ok (.iload_n 1, 1) := dk_27 (dk_at dksX4_sumBy_1 15 rfl rfl)
theorem dX4_sumBy_40 : decode cX4_sumBy 40 = .ok (.iconst 1, 1) := dk_4 (dk_at dksX4_sumBy_1 16 rfl rfl)
theorem dX4_sumBy_41 : decode cX4_sumBy 41 = .ok (.iadd, 1) := dk_96 (dk_at dksX4_sumBy_1 17 rfl rfl)
theorem dX4_sumBy_42 : decode cX4_sumBy 42 = .ok (.imul, 1) := dk_104 (dk_at dksX4_sumBy_1 18 rfl rfl)
theorem dX4_sumBy_43 : decode cX4_sumBy 43 = .ok (.iload_n 2, 1) := dk_28 (dk_at dksX4_sumBy_1 19 rfl rfl)
theorem dX4_sumBy_44 : decode cX4_sumBy 44 = .ok (.iadd, 1) := dk_96 (dk_at dksX4_sumBy_1 20 rfl rfl)
theorem dX4_sumBy_45 : decode cX4_sumBy 45 = .ok (.aload_n 0, 1) := dk_42 (dk_at dksX4_sumBy_1 21 rfl rfl)
theorem dX4_sumBy_46 : decode cX4_sumBy 46 = .ok (.getfield 200, 3) := dk_180 0 200 (dk_at dksX4_sumBy_2 0 rfl rfl)
theorem dX4_sumBy_49 : decode cX4_sumBy 49 = .ok (.iload_n 3, 1) := dk_29 (dk_at dksX4_sumBy_2 3 rfl rfl)
theorem dX4_sumBy_50 : decode cX4_sumBy 50 = .ok (.iaload, 1) := dk_46 (dk_at dksX4_sumBy_2 4 rfl rfl)
theorem dX4_sumBy_51 : decode cX4_sumBy 51 = .ok (.iadd, 1) := dk_96 (dk_at dksX4_sumBy_2 5 rfl rfl)
theorem dX4_sumBy_52 : decode cX4_sumBy 52 = .ok (.iaload, 1) := dk_46 (dk_at dksX4_sumBy_2 6 rfl rfl)
theorem dX4_sumBy_53 : decode cX4_sumBy 53 = .ok (.istore 4, 2) := dk_54 4 (dk_at dksX4_sumBy_2 7 rfl rfl)
theorem dX4_sumBy_55 : decode cX4_sumBy 55 = .ok (.iload 4, 2) := dk_21 4 (dk_at dksX4_sumBy_2 9 rfl rfl)
theorem dX4_sumBy_57 : decode cX4_sumBy 57 = .ok (.ldc_w 490, 3) := dk_19 1 234 (dk_at dksX4_sumBy_2 11 rfl rfl)
theorem dX4_sumBy_60 : decode cX4_sumBy 60 = .ok (.if_icmp .ne 9, 3) := dk_160 0 9 (dk_at dksX4_sumBy_2 14 rfl rfl)
theorem dX4_sumBy_63 : decode cX4_sumBy 63 = .ok (.ldc_w 490, 3) := dk_19 1 234 (dk_at dksX4_sumBy_2 17 rfl rfl)
theorem dX4_sumBy_66 : decode cX4_sumBy 66 = .ok (.goto 17, 3) := dk_167 0 17 (dk_at dksX4_sumBy_2 20 rfl rfl)
theorem dX4_sumBy_69 : decode cX4_sumBy 69 = .ok (.iload 4, 2) := dk_21 4 (dk_at dksX4_sumBy_3 0 rfl rfl)
theorem dX4_sumBy_71 : decode cX4_sumBy 71 = .ok (.aload_n 0, 1) := dk_42 (dk_at dksX4_sumBy_3 2 rfl rfl)
theorem dX4_sumBy_72 : decode cX4_sumBy 72 = .ok (.getfield 213, 3) := dk_180 0 213 (dk_at dksX4_sumBy_3 3 rfl rfl)
theorem dX4_sumBy_75 : decode cX4_sumBy 75 = .ok (.bipush 8, 2) := dk_16 8 (dk_at dksX4_sumBy_3 6 rfl rfl)
theorem dX4_sumBy_77 : decode cX4_sumBy 77 = .ok (.iload_n 1, 1) := dk_27 (dk_at dksX4_sumBy_3 8 rfl rfl)
theorem dX4_sumBy_78 : decode cX4_sumBy 78 = .ok (.imul, 1) := dk_104 (dk_at dksX4_sumBy_3 9 rfl rfl)
theorem dX4_sumBy_79 : decode cX4_sumBy 79 = .ok (.iload_n 3, 1) := dk_29 (dk_at dksX4_sumBy_3 10 rfl rfl)
theorem dX4_sumBy_80 : decode cX4_sumBy 80 = .ok (.iadd, 1) := dk_96 (dk_at dksX4_sumBy_3 11 rfl rfl)
theorem dX4_sumBy_81 : decode cX4_sumBy 81 = .ok (.iaload, 1) := dk_46 (dk_at dksX4_sumBy_3 12 rfl rfl)
theorem dX4_sumBy_82 : decode cX4_sumBy 82 = .ok (.iadd, 1) := dk_96 (dk_at dksX4_sumBy_3 13 rfl rfl)
theorem dX4_sumBy_83 : decode cX4_sumBy 83 = .ok (.ireturn, 1) := dk_172 (dk_at dksX4_sumBy_3 14 rfl rfl)
abbrev cX4_drawn : ByteArray := prog_21_method_90_code
def yX4_drawn : MethodName := ⟨RX4, "drawn", "(III)I"⟩
def dkwX4_drawn_6 : List UInt8 := [21, 7, 159, 0, 14, 21, 8, 154, 0, 6, 21, 9, 172, 132, 8, 255, 132, 9, 1, 167, 255, 220, 2, 172]
abbrev dktX4_drawn_6 : List UInt8 := dkwX4_drawn_6 ++ []
def dkwX4_drawn_5 : List UInt8 := [16, 7, 28, 104, 54, 9, 21, 9, 16, 7, 28, 104, 16, 7, 96, 162, 0, 30, 21, 9, 16, 7, 112]
abbrev dktX4_drawn_5 : List UInt8 := dkwX4_drawn_5 ++ dktX4_drawn_6
def dkwX4_drawn_4 : List UInt8 := [22, 4, 20, 1, 250, 109, 21, 7, 156, 0, 8, 16, 7, 167, 0, 5, 16, 6, 133, 113, 136, 54, 8]
abbrev dktX4_drawn_4 : List UInt8 := dkwX4_drawn_4 ++ dktX4_drawn_5
def dkwX4_drawn_3 : List UInt8 := [54, 6, 21, 6, 156, 0, 7, 2, 167, 0, 13, 42, 180, 0, 140, 21, 6, 46, 16, 7, 112, 54, 7]
abbrev dktX4_drawn_3 : List UInt8 := dkwX4_drawn_3 ++ dktX4_drawn_4
def dkwX4_drawn_2 : List UInt8 := [105, 20, 1, 246, 97, 20, 1, 248, 113, 55, 4, 132, 6, 1, 167, 255, 231, 42, 27, 2, 182, 1, 147]
abbrev dktX4_drawn_2 : List UInt8 := dkwX4_drawn_2 ++ dktX4_drawn_3
def dkwX4_drawn_1 : List UInt8 := [29, 156, 0, 5, 2, 172, 29, 133, 55, 4, 3, 54, 6, 21, 6, 27, 163, 0, 25, 22, 4, 20, 1, 244]
abbrev dktX4_drawn_1 : List UInt8 := dkwX4_drawn_1 ++ dktX4_drawn_2
def dkwX4_drawn_0 : List UInt8 := [42, 3, 181, 0, 1, 42, 27, 182, 1, 119, 153, 0, 18, 28, 3, 17, 5, 147, 184, 1, 102, 153, 0, 7]
abbrev dktX4_drawn_0 : List UInt8 := dkwX4_drawn_0 ++ dktX4_drawn_1
theorem dksX4_drawn_0 : cX4_drawn.data.toList.drop 0 = dktX4_drawn_0 := by decide +kernel
theorem dksX4_drawn_1 : cX4_drawn.data.toList.drop 24 = dktX4_drawn_1 := dk_seg dksX4_drawn_0 24 rfl rfl
theorem dksX4_drawn_2 : cX4_drawn.data.toList.drop 48 = dktX4_drawn_2 := dk_seg dksX4_drawn_1 24 rfl rfl
theorem dksX4_drawn_3 : cX4_drawn.data.toList.drop 71 = dktX4_drawn_3 := dk_seg dksX4_drawn_2 23 rfl rfl
theorem dksX4_drawn_4 : cX4_drawn.data.toList.drop 94 = dktX4_drawn_4 := dk_seg dksX4_drawn_3 23 rfl rfl
theorem dksX4_drawn_5 : cX4_drawn.data.toList.drop 117 = dktX4_drawn_5 := dk_seg dksX4_drawn_4 23 rfl rfl
theorem dksX4_drawn_6 : cX4_drawn.data.toList.drop 140 = dktX4_drawn_6 := dk_seg dksX4_drawn_5 23 rfl rfl
theorem dX4_drawn_0 : decode cX4_drawn 0 = .ok (.aload_n 0, 1) := dk_42 (dk_at dksX4_drawn_0 0 rfl rfl)
theorem dX4_drawn_1 : decode cX4_drawn 1 = .ok (.iconst 0, 1) := dk_3 (dk_at dksX4_drawn_0 1 rfl rfl)
theorem dX4_drawn_2 : decode cX4_drawn 2 = .ok (.putfield 1, 3) := dk_181 0 1 (dk_at dksX4_drawn_0 2 rfl rfl)
theorem dX4_drawn_5 : decode cX4_drawn 5 = .ok (.aload_n 0, 1) := dk_42 (dk_at dksX4_drawn_0 5 rfl rfl)
theorem dX4_drawn_6 : decode cX4_drawn 6 = .ok (.iload_n 1, 1) := dk_27 (dk_at dksX4_drawn_0 6 rfl rfl)
theorem dX4_drawn_7 : decode cX4_drawn 7 = .ok (.invokevirtual 375, 3) := dk_182 1 119 (dk_at dksX4_drawn_0 7 rfl rfl)
theorem dX4_drawn_10 : decode cX4_drawn 10 = .ok (.ifCond .eq 18, 3) := dk_153 0 18 (dk_at dksX4_drawn_0 10 rfl rfl)
theorem dX4_drawn_13 : decode cX4_drawn 13 = .ok (.iload_n 2, 1) := dk_28 (dk_at dksX4_drawn_0 13 rfl rfl)
theorem dX4_drawn_14 : decode cX4_drawn 14 = .ok (.iconst 0, 1) := dk_3 (dk_at dksX4_drawn_0 14 rfl rfl)
theorem dX4_drawn_15 : decode cX4_drawn 15 = .ok (.sipush 1427, 3) := dk_17 5 147 (dk_at dksX4_drawn_0 15 rfl rfl)
theorem dX4_drawn_18 : decode cX4_drawn 18 = .ok (.invokestatic 358, 3) := dk_184 1 102 (dk_at dksX4_drawn_0 18 rfl rfl)
theorem dX4_drawn_21 : decode cX4_drawn 21 = .ok (.ifCond .eq 7, 3) := dk_153 0 7 (dk_at dksX4_drawn_0 21 rfl rfl)
theorem dX4_drawn_24 : decode cX4_drawn 24 = .ok (.iload_n 3, 1) := dk_29 (dk_at dksX4_drawn_1 0 rfl rfl)
theorem dX4_drawn_25 : decode cX4_drawn 25 = .ok (.ifCond .ge 5, 3) := dk_156 0 5 (dk_at dksX4_drawn_1 1 rfl rfl)
theorem dX4_drawn_28 : decode cX4_drawn 28 = .ok (.iconst (-1), 1) := dk_2 (dk_at dksX4_drawn_1 4 rfl rfl)
theorem dX4_drawn_29 : decode cX4_drawn 29 = .ok (.ireturn, 1) := dk_172 (dk_at dksX4_drawn_1 5 rfl rfl)
theorem dX4_drawn_30 : decode cX4_drawn 30 = .ok (.iload_n 3, 1) := dk_29 (dk_at dksX4_drawn_1 6 rfl rfl)
theorem dX4_drawn_31 : decode cX4_drawn 31 = .ok (.i2l, 1) := dk_133 (dk_at dksX4_drawn_1 7 rfl rfl)
theorem dX4_drawn_32 : decode cX4_drawn 32 = .ok (.lstore 4, 2) := dk_55 4 (dk_at dksX4_drawn_1 8 rfl rfl)
theorem dX4_drawn_34 : decode cX4_drawn 34 = .ok (.iconst 0, 1) := dk_3 (dk_at dksX4_drawn_1 10 rfl rfl)
theorem dX4_drawn_35 : decode cX4_drawn 35 = .ok (.istore 6, 2) := dk_54 6 (dk_at dksX4_drawn_1 11 rfl rfl)
theorem dX4_drawn_37 : decode cX4_drawn 37 = .ok (.iload 6, 2) := dk_21 6 (dk_at dksX4_drawn_1 13 rfl rfl)
theorem dX4_drawn_39 : decode cX4_drawn 39 = .ok (.iload_n 1, 1) := dk_27 (dk_at dksX4_drawn_1 15 rfl rfl)
theorem dX4_drawn_40 : decode cX4_drawn 40 = .ok (.if_icmp .gt 25, 3) := dk_163 0 25 (dk_at dksX4_drawn_1 16 rfl rfl)
theorem dX4_drawn_43 : decode cX4_drawn 43 = .ok (.lload 4, 2) := dk_22 4 (dk_at dksX4_drawn_1 19 rfl rfl)
theorem dX4_drawn_45 : decode cX4_drawn 45 = .ok (.ldc2_w 500, 3) := dk_20 1 244 (dk_at dksX4_drawn_1 21 rfl rfl)
theorem dX4_drawn_48 : decode cX4_drawn 48 = .ok (.lmul, 1) := dk_105 (dk_at dksX4_drawn_2 0 rfl rfl)
theorem dX4_drawn_49 : decode cX4_drawn 49 = .ok (.ldc2_w 502, 3) := dk_20 1 246 (dk_at dksX4_drawn_2 1 rfl rfl)
theorem dX4_drawn_52 : decode cX4_drawn 52 = .ok (.ladd, 1) := dk_97 (dk_at dksX4_drawn_2 4 rfl rfl)
theorem dX4_drawn_53 : decode cX4_drawn 53 = .ok (.ldc2_w 504, 3) := dk_20 1 248 (dk_at dksX4_drawn_2 5 rfl rfl)
theorem dX4_drawn_56 : decode cX4_drawn 56 = .ok (.lrem, 1) := dk_113 (dk_at dksX4_drawn_2 8 rfl rfl)
theorem dX4_drawn_57 : decode cX4_drawn 57 = .ok (.lstore 4, 2) := dk_55 4 (dk_at dksX4_drawn_2 9 rfl rfl)
theorem dX4_drawn_59 : decode cX4_drawn 59 = .ok (.iinc 6 1, 3) := dk_132 6 1 (dk_at dksX4_drawn_2 11 rfl rfl)
theorem dX4_drawn_62 : decode cX4_drawn 62 = .ok (.goto (-25), 3) := dk_167 255 231 (dk_at dksX4_drawn_2 14 rfl rfl)
theorem dX4_drawn_65 : decode cX4_drawn 65 = .ok (.aload_n 0, 1) := dk_42 (dk_at dksX4_drawn_2 17 rfl rfl)
theorem dX4_drawn_66 : decode cX4_drawn 66 = .ok (.iload_n 1, 1) := dk_27 (dk_at dksX4_drawn_2 18 rfl rfl)
theorem dX4_drawn_67 : decode cX4_drawn 67 = .ok (.iconst (-1), 1) := dk_2 (dk_at dksX4_drawn_2 19 rfl rfl)
theorem dX4_drawn_68 : decode cX4_drawn 68 = .ok (.invokevirtual 403, 3) := dk_182 1 147 (dk_at dksX4_drawn_2 20 rfl rfl)
theorem dX4_drawn_71 : decode cX4_drawn 71 = .ok (.istore 6, 2) := dk_54 6 (dk_at dksX4_drawn_3 0 rfl rfl)
theorem dX4_drawn_73 : decode cX4_drawn 73 = .ok (.iload 6, 2) := dk_21 6 (dk_at dksX4_drawn_3 2 rfl rfl)
theorem dX4_drawn_75 : decode cX4_drawn 75 = .ok (.ifCond .ge 7, 3) := dk_156 0 7 (dk_at dksX4_drawn_3 4 rfl rfl)
theorem dX4_drawn_78 : decode cX4_drawn 78 = .ok (.iconst (-1), 1) := dk_2 (dk_at dksX4_drawn_3 7 rfl rfl)
theorem dX4_drawn_79 : decode cX4_drawn 79 = .ok (.goto 13, 3) := dk_167 0 13 (dk_at dksX4_drawn_3 8 rfl rfl)
theorem dX4_drawn_82 : decode cX4_drawn 82 = .ok (.aload_n 0, 1) := dk_42 (dk_at dksX4_drawn_3 11 rfl rfl)
theorem dX4_drawn_83 : decode cX4_drawn 83 = .ok (.getfield 140, 3) := dk_180 0 140 (dk_at dksX4_drawn_3 12 rfl rfl)
theorem dX4_drawn_86 : decode cX4_drawn 86 = .ok (.iload 6, 2) := dk_21 6 (dk_at dksX4_drawn_3 15 rfl rfl)
theorem dX4_drawn_88 : decode cX4_drawn 88 = .ok (.iaload, 1) := dk_46 (dk_at dksX4_drawn_3 17 rfl rfl)
theorem dX4_drawn_89 : decode cX4_drawn 89 = .ok (.bipush 7, 2) := dk_16 7 (dk_at dksX4_drawn_3 18 rfl rfl)
theorem dX4_drawn_91 : decode cX4_drawn 91 = .ok (.irem, 1) := dk_112 (dk_at dksX4_drawn_3 20 rfl rfl)
theorem dX4_drawn_92 : decode cX4_drawn 92 = .ok (.istore 7, 2) := dk_54 7 (dk_at dksX4_drawn_3 21 rfl rfl)
theorem dX4_drawn_94 : decode cX4_drawn 94 = .ok (.lload 4, 2) := dk_22 4 (dk_at dksX4_drawn_4 0 rfl rfl)
theorem dX4_drawn_96 : decode cX4_drawn 96 = .ok (.ldc2_w 506, 3) := dk_20 1 250 (dk_at dksX4_drawn_4 2 rfl rfl)
theorem dX4_drawn_99 : decode cX4_drawn 99 = .ok (.ldiv, 1) := dk_109 (dk_at dksX4_drawn_4 5 rfl rfl)
theorem dX4_drawn_100 : decode cX4_drawn 100 = .ok (.iload 7, 2) := dk_21 7 (dk_at dksX4_drawn_4 6 rfl rfl)
theorem dX4_drawn_102 : decode cX4_drawn 102 = .ok (.ifCond .ge 8, 3) := dk_156 0 8 (dk_at dksX4_drawn_4 8 rfl rfl)
theorem dX4_drawn_105 : decode cX4_drawn 105 = .ok (.bipush 7, 2) := dk_16 7 (dk_at dksX4_drawn_4 11 rfl rfl)
theorem dX4_drawn_107 : decode cX4_drawn 107 = .ok (.goto 5, 3) := dk_167 0 5 (dk_at dksX4_drawn_4 13 rfl rfl)
theorem dX4_drawn_110 : decode cX4_drawn 110 = .ok (.bipush 6, 2) := dk_16 6 (dk_at dksX4_drawn_4 16 rfl rfl)
theorem dX4_drawn_112 : decode cX4_drawn 112 = .ok (.i2l, 1) := dk_133 (dk_at dksX4_drawn_4 18 rfl rfl)
theorem dX4_drawn_113 : decode cX4_drawn 113 = .ok (.lrem, 1) := dk_113 (dk_at dksX4_drawn_4 19 rfl rfl)
theorem dX4_drawn_114 : decode cX4_drawn 114 = .ok (.l2i, 1) := dk_136 (dk_at dksX4_drawn_4 20 rfl rfl)
theorem dX4_drawn_115 : decode cX4_drawn 115 = .ok (.istore 8, 2) := dk_54 8 (dk_at dksX4_drawn_4 21 rfl rfl)
theorem dX4_drawn_117 : decode cX4_drawn 117 = .ok (.bipush 7, 2) := dk_16 7 (dk_at dksX4_drawn_5 0 rfl rfl)
theorem dX4_drawn_119 : decode cX4_drawn 119 = .ok (.iload_n 2, 1) := dk_28 (dk_at dksX4_drawn_5 2 rfl rfl)
theorem dX4_drawn_120 : decode cX4_drawn 120 = .ok (.imul, 1) := dk_104 (dk_at dksX4_drawn_5 3 rfl rfl)
theorem dX4_drawn_121 : decode cX4_drawn 121 = .ok (.istore 9, 2) := dk_54 9 (dk_at dksX4_drawn_5 4 rfl rfl)
theorem dX4_drawn_123 : decode cX4_drawn 123 = .ok (.iload 9, 2) := dk_21 9 (dk_at dksX4_drawn_5 6 rfl rfl)
theorem dX4_drawn_125 : decode cX4_drawn 125 = .ok (.bipush 7, 2) := dk_16 7 (dk_at dksX4_drawn_5 8 rfl rfl)
theorem dX4_drawn_127 : decode cX4_drawn 127 = .ok (.iload_n 2, 1) := dk_28 (dk_at dksX4_drawn_5 10 rfl rfl)
theorem dX4_drawn_128 : decode cX4_drawn 128 = .ok (.imul, 1) := dk_104 (dk_at dksX4_drawn_5 11 rfl rfl)
theorem dX4_drawn_129 : decode cX4_drawn 129 = .ok (.bipush 7, 2) := dk_16 7 (dk_at dksX4_drawn_5 12 rfl rfl)
theorem dX4_drawn_131 : decode cX4_drawn 131 = .ok (.iadd, 1) := dk_96 (dk_at dksX4_drawn_5 14 rfl rfl)
theorem dX4_drawn_132 : decode cX4_drawn 132 = .ok (.if_icmp .ge 30, 3) := dk_162 0 30 (dk_at dksX4_drawn_5 15 rfl rfl)
theorem dX4_drawn_135 : decode cX4_drawn 135 = .ok (.iload 9, 2) := dk_21 9 (dk_at dksX4_drawn_5 18 rfl rfl)
theorem dX4_drawn_137 : decode cX4_drawn 137 = .ok (.bipush 7, 2) := dk_16 7 (dk_at dksX4_drawn_5 20 rfl rfl)
theorem dX4_drawn_139 : decode cX4_drawn 139 = .ok (.irem, 1) := dk_112 (dk_at dksX4_drawn_5 22 rfl rfl)
theorem dX4_drawn_140 : decode cX4_drawn 140 = .ok (.iload 7, 2) := dk_21 7 (dk_at dksX4_drawn_6 0 rfl rfl)
theorem dX4_drawn_142 : decode cX4_drawn 142 = .ok (.if_icmp .eq 14, 3) := dk_159 0 14 (dk_at dksX4_drawn_6 2 rfl rfl)
theorem dX4_drawn_145 : decode cX4_drawn 145 = .ok (.iload 8, 2) := dk_21 8 (dk_at dksX4_drawn_6 5 rfl rfl)
theorem dX4_drawn_147 : decode cX4_drawn 147 = .ok (.ifCond .ne 6, 3) := dk_154 0 6 (dk_at dksX4_drawn_6 7 rfl rfl)
theorem dX4_drawn_150 : decode cX4_drawn 150 = .ok (.iload 9, 2) := dk_21 9 (dk_at dksX4_drawn_6 10 rfl rfl)
theorem dX4_drawn_152 : decode cX4_drawn 152 = .ok (.ireturn, 1) := dk_172 (dk_at dksX4_drawn_6 12 rfl rfl)
theorem dX4_drawn_153 : decode cX4_drawn 153 = .ok (.iinc 8 (-1), 3) := dk_132 8 255 (dk_at dksX4_drawn_6 13 rfl rfl)
theorem dX4_drawn_156 : decode cX4_drawn 156 = .ok (.iinc 9 1, 3) := dk_132 9 1 (dk_at dksX4_drawn_6 16 rfl rfl)
theorem dX4_drawn_159 : decode cX4_drawn 159 = .ok (.goto (-36), 3) := dk_167 255 220 (dk_at dksX4_drawn_6 19 rfl rfl)
theorem dX4_drawn_162 : decode cX4_drawn 162 = .ok (.iconst (-1), 1) := dk_2 (dk_at dksX4_drawn_6 22 rfl rfl)
theorem dX4_drawn_163 : decode cX4_drawn 163 = .ok (.ireturn, 1) := dk_172 (dk_at dksX4_drawn_6 23 rfl rfl)
abbrev cX4_sway : ByteArray := prog_21_method_91_code
def yX4_sway : MethodName := ⟨RX4, "sway", "(II)I"⟩
def dkwX4_sway_7 : List UInt8 := [21, 6, 172]
abbrev dktX4_sway_7 : List UInt8 := dkwX4_sway_7 ++ []
def dkwX4_sway_6 : List UInt8 := [132, 7, 1, 167, 255, 173, 21, 5, 156, 0, 7, 2, 167, 0, 14, 28, 154, 0, 8, 21, 5, 167, 0, 5]
abbrev dktX4_sway_6 : List UInt8 := dkwX4_sway_6 ++ dktX4_sway_7
def dkwX4_sway_5 : List UInt8 := [21, 6, 164, 0, 20, 42, 180, 1, 96, 42, 180, 0, 173, 29, 46, 100, 54, 6, 21, 7, 54, 5]
abbrev dktX4_sway_5 : List UInt8 := dkwX4_sway_5 ++ dktX4_sway_6
def dkwX4_sway_4 : List UInt8 := [46, 182, 1, 153, 42, 42, 29, 182, 1, 157, 182, 1, 160, 42, 180, 1, 96, 42, 180, 0, 173, 29, 46, 100]
abbrev dktX4_sway_4 : List UInt8 := dkwX4_sway_4 ++ dktX4_sway_5
def dkwX4_sway_3 : List UInt8 := [29, 182, 1, 150, 4, 21, 7, 120, 130, 21, 4, 156, 0, 7, 3, 167, 0, 10, 42, 180, 0, 170, 21, 4]
abbrev dktX4_sway_3 : List UInt8 := dkwX4_sway_3 ++ dktX4_sway_4
def dkwX4_sway_2 : List UInt8 := [182, 1, 147, 54, 4, 2, 54, 5, 3, 54, 6, 3, 54, 7, 21, 7, 16, 12, 162, 0, 82, 42, 29, 42]
abbrev dktX4_sway_2 : List UInt8 := dkwX4_sway_2 ++ dktX4_sway_3
def dkwX4_sway_1 : List UInt8 := [29, 155, 0, 12, 28, 3, 4, 184, 1, 102, 154, 0, 5, 2, 172, 42, 182, 1, 194, 42, 27, 29]
abbrev dktX4_sway_1 : List UInt8 := dkwX4_sway_1 ++ dktX4_sway_2
def dkwX4_sway_0 : List UInt8 := [42, 3, 181, 0, 1, 42, 27, 182, 1, 119, 153, 0, 12, 42, 27, 2, 182, 1, 147, 167, 0, 4, 2, 62]
abbrev dktX4_sway_0 : List UInt8 := dkwX4_sway_0 ++ dktX4_sway_1
theorem dksX4_sway_0 : cX4_sway.data.toList.drop 0 = dktX4_sway_0 := by decide +kernel
theorem dksX4_sway_1 : cX4_sway.data.toList.drop 24 = dktX4_sway_1 := dk_seg dksX4_sway_0 24 rfl rfl
theorem dksX4_sway_2 : cX4_sway.data.toList.drop 46 = dktX4_sway_2 := dk_seg dksX4_sway_1 22 rfl rfl
theorem dksX4_sway_3 : cX4_sway.data.toList.drop 70 = dktX4_sway_3 := dk_seg dksX4_sway_2 24 rfl rfl
theorem dksX4_sway_4 : cX4_sway.data.toList.drop 94 = dktX4_sway_4 := dk_seg dksX4_sway_3 24 rfl rfl
theorem dksX4_sway_5 : cX4_sway.data.toList.drop 118 = dktX4_sway_5 := dk_seg dksX4_sway_4 24 rfl rfl
theorem dksX4_sway_6 : cX4_sway.data.toList.drop 140 = dktX4_sway_6 := dk_seg dksX4_sway_5 22 rfl rfl
theorem dksX4_sway_7 : cX4_sway.data.toList.drop 164 = dktX4_sway_7 := dk_seg dksX4_sway_6 24 rfl rfl
theorem dX4_sway_0 : decode cX4_sway 0 = .ok (.aload_n 0, 1) := dk_42 (dk_at dksX4_sway_0 0 rfl rfl)
theorem dX4_sway_1 : decode cX4_sway 1 = .ok (.iconst 0, 1) := dk_3 (dk_at dksX4_sway_0 1 rfl rfl)
theorem dX4_sway_2 : decode cX4_sway 2 = .ok (.putfield 1, 3) := dk_181 0 1 (dk_at dksX4_sway_0 2 rfl rfl)
theorem dX4_sway_5 : decode cX4_sway 5 = .ok (.aload_n 0, 1) := dk_42 (dk_at dksX4_sway_0 5 rfl rfl)
theorem dX4_sway_6 : decode cX4_sway 6 = .ok (.iload_n 1, 1) := dk_27 (dk_at dksX4_sway_0 6 rfl rfl)
theorem dX4_sway_7 : decode cX4_sway 7 = .ok (.invokevirtual 375, 3) := dk_182 1 119 (dk_at dksX4_sway_0 7 rfl rfl)
theorem dX4_sway_10 : decode cX4_sway 10 = .ok (.ifCond .eq 12, 3) := dk_153 0 12 (dk_at dksX4_sway_0 10 rfl rfl)
theorem dX4_sway_13 : decode cX4_sway 13 = .ok (.aload_n 0, 1) := dk_42 (dk_at dksX4_sway_0 13 rfl rfl)
theorem dX4_sway_14 : decode cX4_sway 14 = .ok (.iload_n 1, 1) := dk_27 (dk_at dksX4_sway_0 14 rfl rfl)
theorem dX4_sway_15 : decode cX4_sway 15 = .ok (.iconst (-1), 1) := dk_2 (dk_at dksX4_sway_0 15 rfl rfl)
theorem dX4_sway_16 : decode cX4_sway 16 = .ok (.invokevirtual 403, 3) := dk_182 1 147 (dk_at dksX4_sway_0 16 rfl rfl)
theorem dX4_sway_19 : decode cX4_sway 19 = .ok (.goto 4, 3) := dk_167 0 4 (dk_at dksX4_sway_0 19 rfl rfl)
theorem dX4_sway_22 : decode cX4_sway 22 = .ok (.iconst (-1), 1) := dk_2 (dk_at dksX4_sway_0 22 rfl rfl)
theorem dX4_sway_23 : decode cX4_sway 23 = .ok (.istore_n 3, 1) := dk_62 (dk_at dksX4_sway_0 23 rfl rfl)
theorem dX4_sway_24 : decode cX4_sway 24 = .ok (.iload_n 3, 1) := dk_29 (dk_at dksX4_sway_1 0 rfl rfl)
theorem dX4_sway_25 : decode cX4_sway 25 = .ok (.ifCond .lt 12, 3) := dk_155 0 12 (dk_at dksX4_sway_1 1 rfl rfl)
theorem dX4_sway_28 : decode cX4_sway 28 = .ok (.iload_n 2, 1) := dk_28 (dk_at dksX4_sway_1 4 rfl rfl)
theorem dX4_sway_29 : decode cX4_sway 29 = .ok (.iconst 0, 1) := dk_3 (dk_at dksX4_sway_1 5 rfl rfl)
theorem dX4_sway_30 : decode cX4_sway 30 = .ok (.iconst 1, 1) := dk_4 (dk_at dksX4_sway_1 6 rfl rfl)
theorem dX4_sway_31 : decode cX4_sway 31 = .ok (.invokestatic 358, 3) := dk_184 1 102 (dk_at dksX4_sway_1 7 rfl rfl)
theorem dX4_sway_34 : decode cX4_sway 34 = .ok (.ifCond .ne 5, 3) := dk_154 0 5 (dk_at dksX4_sway_1 10 rfl rfl)
theorem dX4_sway_37 : decode cX4_sway 37 = .ok (.iconst (-1), 1) := dk_2 (dk_at dksX4_sway_1 13 rfl rfl)
theorem dX4_sway_38 : decode cX4_sway 38 = .ok (.ireturn, 1) := dk_172 (dk_at dksX4_sway_1 14 rfl rfl)
theorem dX4_sway_39 : decode cX4_sway 39 = .ok (.aload_n 0, 1) := dk_42 (dk_at dksX4_sway_1 15 rfl rfl)
theorem dX4_sway_40 : decode cX4_sway 40 = .ok (.invokevirtual 450, 3) := dk_182 1 194 (dk_at dksX4_sway_1 16 rfl rfl)
theorem dX4_sway_43 : decode cX4_sway 43 = .ok (.aload_n 0, 1) := dk_42 (dk_at dksX4_sway_1 19 rfl rfl)
theorem dX4_sway_44 : decode cX4_sway 44 = .ok (.iload_n 1, 1) := dk_27 (dk_at dksX4_sway_1 20 rfl rfl)
theorem dX4_sway_45 : decode cX4_sway 45 = .ok (.iload_n 3, 1) := dk_29 (dk_at dksX4_sway_1 21 rfl rfl)
theorem dX4_sway_46 : decode cX4_sway 46 = .ok (.invokevirtual 403, 3) := dk_182 1 147 (dk_at dksX4_sway_2 0 rfl rfl)
theorem dX4_sway_49 : decode cX4_sway 49 = .ok (.istore 4, 2) := dk_54 4 (dk_at dksX4_sway_2 3 rfl rfl)
theorem dX4_sway_51 : decode cX4_sway 51 = .ok (.iconst (-1), 1) := dk_2 (dk_at dksX4_sway_2 5 rfl rfl)
theorem dX4_sway_52 : decode cX4_sway 52 = .ok (.istore 5, 2) := dk_54 5 (dk_at dksX4_sway_2 6 rfl rfl)
theorem dX4_sway_54 : decode cX4_sway 54 = .ok (.iconst 0, 1) := dk_3 (dk_at dksX4_sway_2 8 rfl rfl)
theorem dX4_sway_55 : decode cX4_sway 55 = .ok (.istore 6, 2) := dk_54 6 (dk_at dksX4_sway_2 9 rfl rfl)
theorem dX4_sway_57 : decode cX4_sway 57 = .ok (.iconst 0, 1) := dk_3 (dk_at dksX4_sway_2 11 rfl rfl)
theorem dX4_sway_58 : decode cX4_sway 58 = .ok (.istore 7, 2) := dk_54 7 (dk_at dksX4_sway_2 12 rfl rfl)
theorem dX4_sway_60 : decode cX4_sway 60 = .ok (.iload 7, 2) := dk_21 7 (dk_at dksX4_sway_2 14 rfl rfl)
theorem dX4_sway_62 : decode cX4_sway 62 = .ok (.bipush 12, 2) := dk_16 12 (dk_at dksX4_sway_2 16 rfl rfl)
theorem dX4_sway_64 : decode cX4_sway 64 = .ok (.if_icmp .ge 82, 3) := dk_162 0 82 (dk_at dksX4_sway_2 18 rfl rfl)
theorem dX4_sway_67 : decode cX4_sway 67 = .ok (.aload_n 0, 1) := dk_42 (dk_at dksX4_sway_2 21 rfl rfl)
theorem dX4_sway_68 : decode cX4_sway 68 = .ok (.iload_n 3, 1) := dk_29 (dk_at dksX4_sway_2 22 rfl rfl)
theorem dX4_sway_69 : decode cX4_sway 69 = .ok (.aload_n 0, 1) := dk_42 (dk_at dksX4_sway_2 23 rfl rfl)
theorem dX4_sway_70 : decode cX4_sway 70 = .ok (.iload_n 3, 1) := dk_29 (dk_at dksX4_sway_3 0 rfl rfl)
theorem dX4_sway_71 : decode cX4_sway 71 = .ok (.invokevirtual 406, 3) := dk_182 1 150 (dk_at dksX4_sway_3 1 rfl rfl)
theorem dX4_sway_74 : decode cX4_sway 74 = .ok (.iconst 1, 1) := dk_4 (dk_at dksX4_sway_3 4 rfl rfl)
theorem dX4_sway_75 : decode cX4_sway 75 = .ok (.iload 7, 2) := dk_21 7 (dk_at dksX4_sway_3 5 rfl rfl)
theorem dX4_sway_77 : decode cX4_sway 77 = .ok (.ishl, 1) := dk_120 (dk_at dksX4_sway_3 7 rfl rfl)
theorem dX4_sway_78 : decode cX4_sway 78 = .ok (.ixor, 1) := dk_130 (dk_at dksX4_sway_3 8 rfl rfl)
theorem dX4_sway_79 : decode cX4_sway 79 = .ok (.iload 4, 2) := dk_21 4 (dk_at dksX4_sway_3 9 rfl rfl)
theorem dX4_sway_81 : decode cX4_sway 81 = .ok (.ifCond .ge 7, 3) := dk_156 0 7 (dk_at dksX4_sway_3 11 rfl rfl)
theorem dX4_sway_84 : decode cX4_sway 84 = .ok (.iconst 0, 1) := dk_3 (dk_at dksX4_sway_3 14 rfl rfl)
theorem dX4_sway_85 : decode cX4_sway 85 = .ok (.goto 10, 3) := dk_167 0 10 (dk_at dksX4_sway_3 15 rfl rfl)
theorem dX4_sway_88 : decode cX4_sway 88 = .ok (.aload_n 0, 1) := dk_42 (dk_at dksX4_sway_3 18 rfl rfl)
theorem dX4_sway_89 : decode cX4_sway 89 = .ok (.getfield 170, 3) := dk_180 0 170 (dk_at dksX4_sway_3 19 rfl rfl)
theorem dX4_sway_92 : decode cX4_sway 92 = .ok (.iload 4, 2) := dk_21 4 (dk_at dksX4_sway_3 22 rfl rfl)
theorem dX4_sway_94 : decode cX4_sway 94 = .ok (.iaload, 1) := dk_46 (dk_at dksX4_sway_4 0 rfl rfl)
theorem dX4_sway_95 : decode cX4_sway 95 = .ok (.invokevirtual 409, 3) := dk_182 1 153 (dk_at dksX4_sway_4 1 rfl rfl)
theorem dX4_sway_98 : decode cX4_sway 98 = .ok (.aload_n 0, 1) := dk_42 (dk_at dksX4_sway_4 4 rfl rfl)
theorem dX4_sway_99 : decode cX4_sway 99 = .ok (.aload_n 0, 1) := dk_42 (dk_at dksX4_sway_4 5 rfl rfl)
theorem dX4_sway_100 : decode cX4_sway 100 = .ok (.iload_n 3, 1) := dk_29 (dk_at dksX4_sway_4 6 rfl rfl)
theorem dX4_sway_101 : decode cX4_sway 101 = .ok (.invokevirtual 413, 3) := dk_182 1 157 (dk_at dksX4_sway_4 7 rfl rfl)
theorem dX4_sway_104 : decode cX4_sway 104 = .ok (.invokevirtual 416, 3) := dk_182 1 160 (dk_at dksX4_sway_4 10 rfl rfl)
theorem dX4_sway_107 : decode cX4_sway 107 = .ok (.aload_n 0, 1) := dk_42 (dk_at dksX4_sway_4 13 rfl rfl)
theorem dX4_sway_108 : decode cX4_sway 108 = .ok (.getfield 352, 3) := dk_180 1 96 (dk_at dksX4_sway_4 14 rfl rfl)
theorem dX4_sway_111 : decode cX4_sway 111 = .ok (.aload_n 0, 1) := dk_42 (dk_at dksX4_sway_4 17 rfl rfl)
theorem dX4_sway_112 : decode cX4_sway 112 = .ok (.getfield 173, 3) := dk_180 0 173 (dk_at dksX4_sway_4 18 rfl rfl)
theorem dX4_sway_115 : decode cX4_sway 115 = .ok (.iload_n 3, 1) := dk_29 (dk_at dksX4_sway_4 21 rfl rfl)
theorem dX4_sway_116 : decode cX4_sway 116 = .ok (.iaload, 1) := dk_46 (dk_at dksX4_sway_4 22 rfl rfl)
theorem dX4_sway_117 : decode cX4_sway 117 = .ok (.isub, 1) := dk_100 (dk_at dksX4_sway_4 23 rfl rfl)
theorem dX4_sway_118 : decode cX4_sway 118 = .ok (.iload 6, 2) := dk_21 6 (dk_at dksX4_sway_5 0 rfl rfl)
theorem dX4_sway_120 : decode cX4_sway 120 = .ok (.if_icmp .le 20, 3) := dk_164 0 20 (dk_at dksX4_sway_5 2 rfl rfl)
theorem dX4_sway_123 : decode cX4_sway 123 = .ok (.aload_n 0, 1) := dk_42 (dk_at dksX4_sway_5 5 rfl rfl)
theorem dX4_sway_124 : decode cX4_sway 124 = .ok (.getfield 352, 3) := dk_180 1 96 (dk_at dksX4_sway_5 6 rfl rfl)
theorem dX4_sway_127 : decode cX4_sway 127 = .ok (.aload_n 0, 1) := dk_42 (dk_at dksX4_sway_5 9 rfl rfl)
theorem dX4_sway_128 : decode cX4_sway 128 = .ok (.getfield 173, 3) := dk_180 0 173 (dk_at dksX4_sway_5 10 rfl rfl)
theorem dX4_sway_131 : decode cX4_sway 131 = .ok (.iload_n 3, 1) := dk_29 (dk_at dksX4_sway_5 13 rfl rfl)
theorem dX4_sway_132 : decode cX4_sway 132 = .ok (.iaload, 1) := dk_46 (dk_at dksX4_sway_5 14 rfl rfl)
theorem dX4_sway_133 : decode cX4_sway 133 = .ok (.isub, 1) := dk_100 (dk_at dksX4_sway_5 15 rfl rfl)
theorem dX4_sway_134 : decode cX4_sway 134 = .ok (.istore 6, 2) := dk_54 6 (dk_at dksX4_sway_5 16 rfl rfl)
theorem dX4_sway_136 : decode cX4_sway 136 = .ok (.iload 7, 2) := dk_21 7 (dk_at dksX4_sway_5 18 rfl rfl)
theorem dX4_sway_138 : decode cX4_sway 138 = .ok (.istore 5, 2) := dk_54 5 (dk_at dksX4_sway_5 20 rfl rfl)
theorem dX4_sway_140 : decode cX4_sway 140 = .ok (.iinc 7 1, 3) := dk_132 7 1 (dk_at dksX4_sway_6 0 rfl rfl)
theorem dX4_sway_143 : decode cX4_sway 143 = .ok (.goto (-83), 3) := dk_167 255 173 (dk_at dksX4_sway_6 3 rfl rfl)
theorem dX4_sway_146 : decode cX4_sway 146 = .ok (.iload 5, 2) := dk_21 5 (dk_at dksX4_sway_6 6 rfl rfl)
theorem dX4_sway_148 : decode cX4_sway 148 = .ok (.ifCond .ge 7, 3) := dk_156 0 7 (dk_at dksX4_sway_6 8 rfl rfl)
theorem dX4_sway_151 : decode cX4_sway 151 = .ok (.iconst (-1), 1) := dk_2 (dk_at dksX4_sway_6 11 rfl rfl)
theorem dX4_sway_152 : decode cX4_sway 152 = .ok (.goto 14, 3) := dk_167 0 14 (dk_at dksX4_sway_6 12 rfl rfl)
theorem dX4_sway_155 : decode cX4_sway 155 = .ok (.iload_n 2, 1) := dk_28 (dk_at dksX4_sway_6 15 rfl rfl)
theorem dX4_sway_156 : decode cX4_sway 156 = .ok (.ifCond .ne 8, 3) := dk_154 0 8 (dk_at dksX4_sway_6 16 rfl rfl)
theorem dX4_sway_159 : decode cX4_sway 159 = .ok (.iload 5, 2) := dk_21 5 (dk_at dksX4_sway_6 19 rfl rfl)
theorem dX4_sway_161 : decode cX4_sway 161 = .ok (.goto 5, 3) := dk_167 0 5 (dk_at dksX4_sway_6 21 rfl rfl)
theorem dX4_sway_164 : decode cX4_sway 164 = .ok (.iload 6, 2) := dk_21 6 (dk_at dksX4_sway_7 0 rfl rfl)
theorem dX4_sway_166 : decode cX4_sway 166 = .ok (.ireturn, 1) := dk_172 (dk_at dksX4_sway_7 2 rfl rfl)
abbrev cX4_sum : ByteArray := prog_21_method_92_code
def yX4_sum : MethodName := ⟨RX4, "sum", "(IIII)I"⟩
def dkwX4_sum_7 : List UInt8 := [21, 6, 46, 182, 1, 235, 104, 96, 167, 0, 4, 3, 96, 54, 5, 132, 6, 1, 167, 255, 134, 21, 5, 172]
abbrev dktX4_sum_7 : List UInt8 := dkwX4_sum_7 ++ []
def dkwX4_sum_6 : List UInt8 := [46, 28, 160, 0, 32, 42, 180, 0, 222, 42, 180, 0, 219, 8, 108, 5, 104, 42, 28, 42, 180, 0, 134]
abbrev dktX4_sum_6 : List UInt8 := dkwX4_sum_6 ++ dktX4_sum_7
def dkwX4_sum_5 : List UInt8 := [180, 0, 173, 21, 6, 46, 167, 0, 4, 3, 96, 54, 5, 167, 0, 49, 21, 5, 42, 180, 0, 137, 21, 6]
abbrev dktX4_sum_5 : List UInt8 := dkwX4_sum_5 ++ dktX4_sum_6
def dkwX4_sum_4 : List UInt8 := [154, 0, 38, 21, 5, 42, 180, 0, 115, 42, 180, 0, 134, 21, 6, 46, 46, 28, 160, 0, 13, 42]
abbrev dktX4_sum_4 : List UInt8 := dkwX4_sum_4 ++ dktX4_sum_5
def dkwX4_sum_3 : List UInt8 := [182, 1, 197, 153, 0, 104, 42, 180, 0, 140, 21, 6, 46, 29, 21, 4, 184, 1, 102, 153, 0, 88, 27]
abbrev dktX4_sum_3 : List UInt8 := dkwX4_sum_3 ++ dktX4_sum_4
def dkwX4_sum_2 : List UInt8 := [172, 42, 182, 1, 194, 3, 54, 5, 3, 54, 6, 21, 6, 42, 180, 1, 116, 162, 0, 119, 42, 21, 6]
abbrev dktX4_sum_2 : List UInt8 := dkwX4_sum_2 ++ dktX4_sum_3
def dkwX4_sum_1 : List UInt8 := [154, 0, 15, 28, 3, 6, 184, 1, 102, 154, 0, 16, 167, 0, 11, 42, 28, 182, 1, 122, 154, 0, 5, 2]
abbrev dktX4_sum_1 : List UInt8 := dkwX4_sum_1 ++ dktX4_sum_2
def dkwX4_sum_0 : List UInt8 := [42, 3, 181, 0, 1, 27, 3, 4, 184, 1, 102, 153, 0, 36, 29, 21, 4, 184, 1, 212, 153, 0, 27, 27]
abbrev dktX4_sum_0 : List UInt8 := dkwX4_sum_0 ++ dktX4_sum_1
theorem dksX4_sum_0 : cX4_sum.data.toList.drop 0 = dktX4_sum_0 := by decide +kernel
theorem dksX4_sum_1 : cX4_sum.data.toList.drop 24 = dktX4_sum_1 := dk_seg dksX4_sum_0 24 rfl rfl
theorem dksX4_sum_2 : cX4_sum.data.toList.drop 48 = dktX4_sum_2 := dk_seg dksX4_sum_1 24 rfl rfl
theorem dksX4_sum_3 : cX4_sum.data.toList.drop 71 = dktX4_sum_3 := dk_seg dksX4_sum_2 23 rfl rfl
theorem dksX4_sum_4 : cX4_sum.data.toList.drop 94 = dktX4_sum_4 := dk_seg dksX4_sum_3 23 rfl rfl
theorem dksX4_sum_5 : cX4_sum.data.toList.drop 116 = dktX4_sum_5 := dk_seg dksX4_sum_4 22 rfl rfl
theorem dksX4_sum_6 : cX4_sum.data.toList.drop 140 = dktX4_sum_6 := dk_seg dksX4_sum_5 24 rfl rfl
theorem dksX4_sum_7 : cX4_sum.data.toList.drop 163 = dktX4_sum_7 := dk_seg dksX4_sum_6 23 rfl rfl
theorem dX4_sum_0 : decode cX4_sum 0 = .ok (.aload_n 0, 1) := dk_42 (dk_at dksX4_sum_0 0 rfl rfl)
theorem dX4_sum_1 : decode cX4_sum 1 = .ok (.iconst 0, 1) := dk_3 (dk_at dksX4_sum_0 1 rfl rfl)
theorem dX4_sum_2 : decode cX4_sum 2 = .ok (.putfield 1, 3) := dk_181 0 1 (dk_at dksX4_sum_0 2 rfl rfl)
theorem dX4_sum_5 : decode cX4_sum 5 = .ok (.iload_n 1, 1) := dk_27 (dk_at dksX4_sum_0 5 rfl rfl)
theorem dX4_sum_6 : decode cX4_sum 6 = .ok (.iconst 0, 1) := dk_3 (dk_at dksX4_sum_0 6 rfl rfl)
theorem dX4_sum_7 : decode cX4_sum 7 = .ok (.iconst 1, 1) := dk_4 (dk_at dksX4_sum_0 7 rfl rfl)
theorem dX4_sum_8 : decode cX4_sum 8 = .ok (.invokestatic 358, 3) := dk_184 1 102 (dk_at dksX4_sum_0 8 rfl rfl)
theorem dX4_sum_11 : decode cX4_sum 11 = .ok (.ifCond .eq 36, 3) := dk_153 0 36 (dk_at dksX4_sum_0 11 rfl rfl)
theorem dX4_sum_14 : decode cX4_sum 14 = .ok (.iload_n 3, 1) := dk_29 (dk_at dksX4_sum_0 14 rfl rfl)
theorem dX4_sum_15 : decode cX4_sum 15 = .ok (.iload 4, 2) := dk_21 4 (dk_at dksX4_sum_0 15 rfl rfl)
theorem dX4_sum_17 : decode cX4_sum 17 = .ok (.invokestatic 468, 3) := dk_184 1 212 (dk_at dksX4_sum_0 17 rfl rfl)
theorem dX4_sum_20 : decode cX4_sum 20 = .ok (.ifCond .eq 27, 3) := dk_153 0 27 (dk_at dksX4_sum_0 20 rfl rfl)
theorem dX4_sum_23 : decode cX4_sum 23 = .ok (.iload_n 1, 1) := dk_27 (dk_at dksX4_sum_0 23 rfl rfl)
theorem dX4_sum_24 : decode cX4_sum 24 = .ok (.ifCond .ne 15, 3) := dk_154 0 15 (dk_at dksX4_sum_1 0 rfl rfl)
theorem dX4_sum_27 : decode cX4_sum 27 = .ok (.iload_n 2, 1) := dk_28 (dk_at dksX4_sum_1 3 rfl rfl)
theorem dX4_sum_28 : decode cX4_sum 28 = .ok (.iconst 0, 1) := dk_3 (dk_at dksX4_sum_1 4 rfl rfl)
theorem dX4_sum_29 : decode cX4_sum 29 = .ok (.iconst 3, 1) := dk_6 (dk_at dksX4_sum_1 5 rfl rfl)
theorem dX4_sum_30 : decode cX4_sum 30 = .ok (.invokestatic 358, 3) := dk_184 1 102 (dk_at dksX4_sum_1 6 rfl rfl)
theorem dX4_sum_33 : decode cX4_sum 33 = .ok (.ifCond .ne 16, 3) := dk_154 0 16 (dk_at dksX4_sum_1 9 rfl rfl)
theorem dX4_sum_36 : decode cX4_sum 36 = .ok (.goto 11, 3) := dk_167 0 11 (dk_at dksX4_sum_1 12 rfl rfl)
theorem dX4_sum_39 : decode cX4_sum 39 = .ok (.aload_n 0, 1) := dk_42 (dk_at dksX4_sum_1 15 rfl rfl)
theorem dX4_sum_40 : decode cX4_sum 40 = .ok (.iload_n 2, 1) := dk_28 (dk_at dksX4_sum_1 16 rfl rfl)
theorem dX4_sum_41 : decode cX4_sum 41 = .ok (.invokevirtual 378, 3) := dk_182 1 122 (dk_at dksX4_sum_1 17 rfl rfl)
theorem dX4_sum_44 : decode cX4_sum 44 = .ok (.ifCond .ne 5, 3) := dk_154 0 5 (dk_at dksX4_sum_1 20 rfl rfl)
theorem dX4_sum_47 : decode cX4_sum 47 = .ok (.iconst (-1), 1) := dk_2 (dk_at dksX4_sum_1 23 rfl rfl)
theorem dX4_sum_48 : decode cX4_sum 48 = .ok (.ireturn, 1) := dk_172 (dk_at dksX4_sum_2 0 rfl rfl)
theorem dX4_sum_49 : decode cX4_sum 49 = .ok (.aload_n 0, 1) := dk_42 (dk_at dksX4_sum_2 1 rfl rfl)
theorem dX4_sum_50 : decode cX4_sum 50 = .ok (.invokevirtual 450, 3) := dk_182 1 194 (dk_at dksX4_sum_2 2 rfl rfl)
theorem dX4_sum_53 : decode cX4_sum 53 = .ok (.iconst 0, 1) := dk_3 (dk_at dksX4_sum_2 5 rfl rfl)
theorem dX4_sum_54 : decode cX4_sum 54 = .ok (.istore 5, 2) := dk_54 5 (dk_at dksX4_sum_2 6 rfl rfl)
theorem dX4_sum_56 : decode cX4_sum 56 = .ok (.iconst 0, 1) := dk_3 (dk_at dksX4_sum_2 8 rfl rfl)
theorem dX4_sum_57 : decode cX4_sum 57 = .ok (.istore 6, 2) := dk_54 6 (dk_at dksX4_sum_2 9 rfl rfl)
theorem dX4_sum_59 : decode cX4_sum 59 = .ok (.iload 6, 2) := dk_21 6 (dk_at dksX4_sum_2 11 rfl rfl)
theorem dX4_sum_61 : decode cX4_sum 61 = .ok (.aload_n 0, 1) := dk_42 (dk_at dksX4_sum_2 13 rfl rfl)
theorem dX4_sum_62 : decode cX4_sum 62 = .ok (.getfield 372, 3) := dk_180 1 116 (dk_at dksX4_sum_2 14 rfl rfl)
theorem dX4_sum_65 : decode cX4_sum 65 = .ok (.if_icmp .ge 119, 3) := dk_162 0 119 (dk_at dksX4_sum_2 17 rfl rfl)
theorem dX4_sum_68 : decode cX4_sum 68 = .ok (.aload_n 0, 1) := dk_42 (dk_at dksX4_sum_2 20 rfl rfl)
theorem dX4_sum_69 : decode cX4_sum 69 = .ok (.iload 6, 2) := dk_21 6 (dk_at dksX4_sum_2 21 rfl rfl)
theorem dX4_sum_71 : decode cX4_sum 71 = .ok (.invokevirtual 453, 3) := dk_182 1 197 (dk_at dksX4_sum_3 0 rfl rfl)
theorem dX4_sum_74 : decode cX4_sum 74 = .ok (.ifCond .eq 104, 3) := dk_153 0 104 (dk_at dksX4_sum_3 3 rfl rfl)
theorem dX4_sum_77 : decode cX4_sum 77 = .ok (.aload_n 0, 1) := dk_42 (dk_at dksX4_sum_3 6 rfl rfl)
theorem dX4_sum_78 : decode cX4_sum 78 = .ok (.getfield 140, 3) := dk_180 0 140 (dk_at dksX4_sum_3 7 rfl rfl)
theorem dX4_sum_81 : decode cX4_sum 81 = .ok (.iload 6, 2) := dk_21 6 (dk_at dksX4_sum_3 10 rfl rfl)
theorem dX4_sum_83 : decode cX4_sum 83 = .ok (.iaload, 1) := dk_46 (dk_at dksX4_sum_3 12 rfl rfl)
theorem dX4_sum_84 : decode cX4_sum 84 = .ok (.iload_n 3, 1) := dk_29 (dk_at dksX4_sum_3 13 rfl rfl)
theorem dX4_sum_85 : decode cX4_sum 85 = .ok (.iload 4, 2) := dk_21 4 (dk_at dksX4_sum_3 14 rfl rfl)
theorem dX4_sum_87 : decode cX4_sum 87 = .ok (.invokestatic 358, 3) := dk_184 1 102 (dk_at dksX4_sum_3 16 rfl rfl)
theorem dX4_sum_90 : decode cX4_sum 90 = .ok (.ifCond .eq 88, 3) := dk_153 0 88 (dk_at dksX4_sum_3 19 rfl rfl)
theorem dX4_sum_93 : decode cX4_sum 93 = .ok (.iload_n 1, 1) := dk_27 (dk_at dksX4_sum_3 22 rfl rfl)
theorem dX4_sum_94 : decode cX4_sum 94 = .ok (.ifCond .ne 38, 3) := dk_154 0 38 (dk_at dksX4_sum_4 0 rfl rfl)
theorem dX4_sum_97 : decode cX4_sum 97 = .ok (.iload 5, 2) := dk_21 5 (dk_at dksX4_sum_4 3 rfl rfl)
theorem dX4_sum_99 : decode cX4_sum 99 = .ok (.aload_n 0, 1) := dk_42 (dk_at dksX4_sum_4 5 rfl rfl)
theorem dX4_sum_100 : decode cX4_sum 100 = .ok (.getfield 115, 3) := dk_180 0 115 (dk_at dksX4_sum_4 6 rfl rfl)
theorem dX4_sum_103 : decode cX4_sum 103 = .ok (.aload_n 0, 1) := dk_42 (dk_at dksX4_sum_4 9 rfl rfl)
theorem dX4_sum_104 : decode cX4_sum 104 = .ok (.getfield 134, 3) := dk_180 0 134 (dk_at dksX4_sum_4 10 rfl rfl)
theorem dX4_sum_107 : decode cX4_sum 107 = .ok (.iload 6, 2) := dk_21 6 (dk_at dksX4_sum_4 13 rfl rfl)
theorem dX4_sum_109 : decode cX4_sum 109 = .ok (.iaload, 1) := dk_46 (dk_at dksX4_sum_4 15 rfl rfl)
theorem dX4_sum_110 : decode cX4_sum 110 = .ok (.iaload, 1) := dk_46 (dk_at dksX4_sum_4 16 rfl rfl)
theorem dX4_sum_111 : decode cX4_sum 111 = .ok (.iload_n 2, 1) := dk_28 (dk_at dksX4_sum_4 17 rfl rfl)
theorem dX4_sum_112 : decode cX4_sum 112 = .ok (.if_icmp .ne 13, 3) := dk_160 0 13 (dk_at dksX4_sum_4 18 rfl rfl)
theorem dX4_sum_115 : decode cX4_sum 115 = .ok (.aload_n 0, 1) := dk_42 (dk_at dksX4_sum_4 21 rfl rfl)
theorem dX4_sum_116 : decode cX4_sum 116 = .ok (.getfield 173, 3) := dk_180 0 173 (dk_at dksX4_sum_5 0 rfl rfl)
theorem dX4_sum_119 : decode cX4_sum 119 = .ok (.iload 6, 2) := dk_21 6 (dk_at dksX4_sum_5 3 rfl rfl)
theorem dX4_sum_121 : decode cX4_sum 121 = .ok (.iaload, 1) := dk_46 (dk_at dksX4_sum_5 5 rfl rfl)
theorem dX4_sum_122 : decode cX4_sum 122 = .ok (.goto 4, 3) := dk_167 0 4 (dk_at dksX4_sum_5 6 rfl rfl)
theorem dX4_sum_125 : decode cX4_sum 125 = .ok (.iconst 0, 1) := dk_3 (dk_at dksX4_sum_5 9 rfl rfl)
theorem dX4_sum_126 : decode cX4_sum 126 = .ok (.iadd, 1) := dk_96 (dk_at dksX4_sum_5 10 rfl rfl)
theorem dX4_sum_127 : decode cX4_sum 127 = .ok (.istore 5, 2) := dk_54 5 (dk_at dksX4_sum_5 11 rfl rfl)
theorem dX4_sum_129 : decode cX4_sum 129 = .ok (.goto 49, 3) := dk_167 0 49 (dk_at dksX4_sum_5 13 rfl rfl)
theorem dX4_sum_132 : decode cX4_sum 132 = .ok (.iload 5, 2) := dk_21 5 (dk_at dksX4_sum_5 16 rfl rfl)
theorem dX4_sum_134 : decode cX4_sum 134 = .ok (.aload_n 0, 1) := dk_42 (dk_at dksX4_sum_5 18 rfl rfl)
theorem dX4_sum_135 : decode cX4_sum 135 = .ok (.getfield 137, 3) := dk_180 0 137 (dk_at dksX4_sum_5 19 rfl rfl)
theorem dX4_sum_138 : decode cX4_sum 138 = .ok (.iload 6, 2) := dk_21 6 (dk_at dksX4_sum_5 22 rfl rfl)
theorem dX4_sum_140 : decode cX4_sum 140 = .ok (.iaload, 1) := dk_46 (dk_at dksX4_sum_6 0 rfl rfl)
theorem dX4_sum_141 : decode cX4_sum 141 = .ok (.iload_n 2, 1) := dk_28 (dk_at dksX4_sum_6 1 rfl rfl)
theorem dX4_sum_142 : decode cX4_sum 142 = .ok (.if_icmp .ne 32, 3) := dk_160 0 32 (dk_at dksX4_sum_6 2 rfl rfl)
theorem dX4_sum_145 : decode cX4_sum 145 = .ok (.aload_n 0, 1) := dk_42 (dk_at dksX4_sum_6 5 rfl rfl)
theorem dX4_sum_146 : decode cX4_sum 146 = .ok (.getfield 222, 3) := dk_180 0 222 (dk_at dksX4_sum_6 6 rfl rfl)
theorem dX4_sum_149 : decode cX4_sum 149 = .ok (.aload_n 0, 1) := dk_42 (dk_at dksX4_sum_6 9 rfl rfl)
theorem dX4_sum_150 : decode cX4_sum 150 = .ok (.getfield 219, 3) := dk_180 0 219 (dk_at dksX4_sum_6 10 rfl rfl)
theorem dX4_sum_153 : decode cX4_sum 153 = .ok (.iconst 5, 1) := dk_8 (dk_at dksX4_sum_6 13 rfl rfl)
theorem dX4_sum_154 : decode cX4_sum 154 = .ok (.idiv, 1) := dk_108 (dk_at dksX4_sum_6 14 rfl rfl)
theorem dX4_sum_155 : decode cX4_sum 155 = .ok (.iconst 2, 1) := dk_5 (dk_at dksX4_sum_6 15 rfl rfl)
theorem dX4_sum_156 : decode cX4_sum 156 = .ok (.imul, 1) := dk_104 (dk_at dksX4_sum_6 16 rfl rfl)
theorem dX4_sum_157 : decode cX4_sum 157 = .ok (.aload_n 0, 1) := dk_42 (dk_at dksX4_sum_6 17 rfl rfl)
theorem dX4_sum_158 : decode cX4_sum 158 = .ok (.iload_n 2, 1) := dk_28 (dk_at dksX4_sum_6 18 rfl rfl)
theorem dX4_sum_159 : decode cX4_sum 159 = .ok (.aload_n 0, 1) := dk_42 (dk_at dksX4_sum_6 19 rfl rfl)
theorem dX4_sum_160 : decode cX4_sum 160 = .ok (.getfield 134, 3) := dk_180 0 134 (dk_at dksX4_sum_6 20 rfl rfl)
theorem dX4_sum_163 : decode cX4_sum 163 = .ok (.iload 6, 2) := dk_21 6 (dk_at dksX4_sum_7 0 rfl rfl)
theorem dX4_sum_165 : decode cX4_sum 165 = .ok (.iaload, 1) := dk_46 (dk_at dksX4_sum_7 2 rfl rfl)
theorem dX4_sum_166 : decode cX4_sum 166 = .ok (.invokevirtual 491, 3) := dk_182 1 235 (dk_at dksX4_sum_7 3 rfl rfl)
theorem dX4_sum_169 : decode cX4_sum 169 = .ok (.imul, 1) := dk_104 (dk_at dksX4_sum_7 6 rfl rfl)
theorem dX4_sum_170 : decode cX4_sum 170 = .ok (.iadd, 1) := dk_96 (dk_at dksX4_sum_7 7 rfl rfl)
theorem dX4_sum_171 : decode cX4_sum 171 = .ok (.goto 4, 3) := dk_167 0 4 (dk_at dksX4_sum_7 8 rfl rfl)
theorem dX4_sum_174 : decode cX4_sum 174 = .ok (.iconst 0, 1) := dk_3 (dk_at dksX4_sum_7 11 rfl rfl)
theorem dX4_sum_175 : decode cX4_sum 175 = .ok (.iadd, 1) := dk_96 (dk_at dksX4_sum_7 12 rfl rfl)
theorem dX4_sum_176 : decode cX4_sum 176 = .ok (.istore 5, 2) := dk_54 5 (dk_at dksX4_sum_7 13 rfl rfl)
theorem dX4_sum_178 : decode cX4_sum 178 = .ok (.iinc 6 1, 3) := dk_132 6 1 (dk_at dksX4_sum_7 15 rfl rfl)
theorem dX4_sum_181 : decode cX4_sum 181 = .ok (.goto (-122), 3) := dk_167 255 134 (dk_at dksX4_sum_7 18 rfl rfl)
theorem dX4_sum_184 : decode cX4_sum 184 = .ok (.iload 5, 2) := dk_21 5 (dk_at dksX4_sum_7 21 rfl rfl)
theorem dX4_sum_186 : decode cX4_sum 186 = .ok (.ireturn, 1) := dk_172 (dk_at dksX4_sum_7 23 rfl rfl)
abbrev cX4_count : ByteArray := prog_21_method_93_code
def yX4_count : MethodName := ⟨RX4, "count", "(I)I"⟩
def dkwX4_count_7 : List UInt8 := [132, 3, 1, 167, 255, 219, 28, 172, 42, 180, 1, 166, 172, 2, 172]
abbrev dktX4_count_7 : List UInt8 := dkwX4_count_7 ++ []
def dkwX4_count_6 : List UInt8 := [182, 1, 138, 153, 0, 17, 42, 180, 0, 176, 29, 46, 4, 160, 0, 7, 4, 167, 0, 4, 3, 96, 61]
abbrev dktX4_count_6 : List UInt8 := dkwX4_count_6 ++ dktX4_count_7
def dkwX4_count_5 : List UInt8 := [180, 1, 23, 172, 42, 180, 0, 11, 172, 3, 62, 29, 42, 180, 1, 116, 162, 0, 35, 28, 42, 29]
abbrev dktX4_count_5 : List UInt8 := dkwX4_count_5 ++ dktX4_count_6
def dkwX4_count_4 : List UInt8 := [153, 0, 7, 4, 167, 0, 4, 3, 96, 61, 132, 3, 1, 167, 255, 229, 28, 172, 42, 180, 1, 129, 172, 42]
abbrev dktX4_count_4 : List UInt8 := dkwX4_count_4 ++ dktX4_count_5
def dkwX4_count_3 : List UInt8 := [172, 42, 180, 1, 144, 172, 3, 62, 29, 42, 180, 1, 116, 162, 0, 25, 28, 42, 29, 182, 1, 197]
abbrev dktX4_count_3 : List UInt8 := dkwX4_count_3 ++ dktX4_count_4
def dkwX4_count_2 : List UInt8 := [42, 180, 1, 39, 172, 42, 182, 1, 132, 172, 42, 180, 1, 110, 172, 42, 180, 1, 113, 172, 42, 180, 1, 116]
abbrev dktX4_count_2 : List UInt8 := dkwX4_count_2 ++ dktX4_count_3
def dkwX4_count_1 : List UInt8 := [170, 0, 0, 0, 0, 0, 0, 192, 0, 0, 0, 0, 0, 0, 0, 11, 0, 0, 0, 64, 0, 0, 0, 69, 0, 0, 0, 74, 0, 0, 0, 79, 0, 0, 0, 84, 0, 0, 0, 89, 0, 0, 0, 94, 0, 0, 0, 128, 0, 0, 0, 133, 0, 0, 0, 138, 0, 0, 0, 143, 0, 0, 0, 187]
abbrev dktX4_count_1 : List UInt8 := dkwX4_count_1 ++ dktX4_count_2
def dkwX4_count_0 : List UInt8 := [42, 3, 181, 0, 1, 42, 182, 1, 194, 3, 61, 27]
abbrev dktX4_count_0 : List UInt8 := dkwX4_count_0 ++ dktX4_count_1
theorem dksX4_count_0 : cX4_count.data.toList.drop 0 = dktX4_count_0 := by decide +kernel
theorem dksX4_count_1 : cX4_count.data.toList.drop 12 = dktX4_count_1 := dk_seg dksX4_count_0 12 rfl rfl
theorem dksX4_count_2 : cX4_count.data.toList.drop 76 = dktX4_count_2 := dk_seg dksX4_count_1 64 rfl rfl
theorem dksX4_count_3 : cX4_count.data.toList.drop 100 = dktX4_count_3 := dk_seg dksX4_count_2 24 rfl rfl
theorem dksX4_count_4 : cX4_count.data.toList.drop 122 = dktX4_count_4 := dk_seg dksX4_count_3 22 rfl rfl
theorem dksX4_count_5 : cX4_count.data.toList.drop 146 = dktX4_count_5 := dk_seg dksX4_count_4 24 rfl rfl
theorem dksX4_count_6 : cX4_count.data.toList.drop 168 = dktX4_count_6 := dk_seg dksX4_count_5 22 rfl rfl
theorem dksX4_count_7 : cX4_count.data.toList.drop 191 = dktX4_count_7 := dk_seg dksX4_count_6 23 rfl rfl
theorem dX4_count_0 : decode cX4_count 0 = .ok (.aload_n 0, 1) := dk_42 (dk_at dksX4_count_0 0 rfl rfl)
theorem dX4_count_1 : decode cX4_count 1 = .ok (.iconst 0, 1) := dk_3 (dk_at dksX4_count_0 1 rfl rfl)
theorem dX4_count_2 : decode cX4_count 2 = .ok (.putfield 1, 3) := dk_181 0 1 (dk_at dksX4_count_0 2 rfl rfl)
theorem dX4_count_5 : decode cX4_count 5 = .ok (.aload_n 0, 1) := dk_42 (dk_at dksX4_count_0 5 rfl rfl)
theorem dX4_count_6 : decode cX4_count 6 = .ok (.invokevirtual 450, 3) := dk_182 1 194 (dk_at dksX4_count_0 6 rfl rfl)
theorem dX4_count_9 : decode cX4_count 9 = .ok (.iconst 0, 1) := dk_3 (dk_at dksX4_count_0 9 rfl rfl)
theorem dX4_count_10 : decode cX4_count 10 = .ok (.istore_n 2, 1) := dk_61 (dk_at dksX4_count_0 10 rfl rfl)
theorem dX4_count_11 : decode cX4_count 11 = .ok (.iload_n 1, 1) := dk_27 (dk_at dksX4_count_0 11 rfl rfl)
theorem dX4_count_12 : decode cX4_count 12 = .ok (.tableswitch 192 0 11 #[64, 69, 74, 79, 84, 89, 94, 128, 133, 138, 143, 187], 64) := by decide +kernel
theorem dX4_count_76 : decode cX4_count 76 = .ok (.aload_n 0, 1) := dk_42 (dk_at dksX4_count_2 0 rfl rfl)
theorem dX4_count_77 : decode cX4_count 77 = .ok (.getfield 295, 3) := dk_180 1 39 (dk_at dksX4_count_2 1 rfl rfl)
theorem dX4_count_80 : decode cX4_count 80 = .ok (.ireturn, 1) := dk_172 (dk_at dksX4_count_2 4 rfl rfl)
theorem dX4_count_81 : decode cX4_count 81 = .ok (.aload_n 0, 1) := dk_42 (dk_at dksX4_count_2 5 rfl rfl)
theorem dX4_count_82 : decode cX4_count 82 = .ok (.invokevirtual 388, 3) := dk_182 1 132 (dk_at dksX4_count_2 6 rfl rfl)
theorem dX4_count_85 : decode cX4_count 85 = .ok (.ireturn, 1) := dk_172 (dk_at dksX4_count_2 9 rfl rfl)
theorem dX4_count_86 : decode cX4_count 86 = .ok (.aload_n 0, 1) := dk_42 (dk_at dksX4_count_2 10 rfl rfl)
theorem dX4_count_87 : decode cX4_count 87 = .ok (.getfield 366, 3) := dk_180 1 110 (dk_at dksX4_count_2 11 rfl rfl)
theorem dX4_count_90 : decode cX4_count 90 = .ok (.ireturn, 1) := dk_172 (dk_at dksX4_count_2 14 rfl rfl)
theorem dX4_count_91 : decode cX4_count 91 = .ok (.aload_n 0, 1) := dk_42 (dk_at dksX4_count_2 15 rfl rfl)
theorem dX4_count_92 : decode cX4_count 92 = .ok (.getfield 369, 3) := dk_180 1 113 (dk_at dksX4_count_2 16 rfl rfl)
theorem dX4_count_95 : decode cX4_count 95 = .ok (.ireturn, 1) := dk_172 (dk_at dksX4_count_2 19 rfl rfl)
theorem dX4_count_96 : decode cX4_count 96 = .ok (.aload_n 0, 1) := dk_42 (dk_at dksX4_count_2 20 rfl rfl)
theorem dX4_count_97 : decode cX4_count 97 = .ok (.getfield 372, 3) := dk_180 1 116 (dk_at dksX4_count_2 21 rfl rfl)
theorem dX4_count_100 : decode cX4_count 100 = .ok (.ireturn, 1) := dk_172 (dk_at dksX4_count_3 0 rfl rfl)
theorem dX4_count_101 : decode cX4_count 101 = .ok (.aload_n 0, 1) := dk_42 (dk_at dksX4_count_3 1 rfl rfl)
theorem dX4_count_102 : decode cX4_count 102 = .ok (.getfield 400, 3) := dk_180 1 144 (dk_at dksX4_count_3 2 rfl rfl)
theorem dX4_count_105 : decode cX4_count 105 = .ok (.ireturn, 1) := dk_172 (dk_at dksX4_count_3 5 rfl rfl)
theorem dX4_count_106 : decode cX4_count 106 = .ok (.iconst 0, 1) := dk_3 (dk_at dksX4_count_3 6 rfl rfl)
theorem dX4_count_107 : decode cX4_count 107 = .ok (.istore_n 3, 1) := dk_62 (dk_at dksX4_count_3 7 rfl rfl)
theorem dX4_count_108 : decode cX4_count 108 = .ok (.iload_n 3, 1) := dk_29 (dk_at dksX4_count_3 8 rfl rfl)
theorem dX4_count_109 : decode cX4_count 109 = .ok (.aload_n 0, 1) := dk_42 (dk_at dksX4_count_3 9 rfl rfl)
theorem dX4_count_110 : decode cX4_count 110 = .ok (.getfield 372, 3) := dk_180 1 116 (dk_at dksX4_count_3 10 rfl rfl)
theorem dX4_count_113 : decode cX4_count 113 = .ok (.if_icmp .ge 25, 3) := dk_162 0 25 (dk_at dksX4_count_3 13 rfl rfl)
theorem dX4_count_116 : decode cX4_count 116 = .ok (.iload_n 2, 1) := dk_28 (dk_at dksX4_count_3 16 rfl rfl)
theorem dX4_count_117 : decode cX4_count 117 = .ok (.aload_n 0, 1) := dk_42 (dk_at dksX4_count_3 17 rfl rfl)
theorem dX4_count_118 : decode cX4_count 118 = .ok (.iload_n 3, 1) := dk_29 (dk_at dksX4_count_3 18 rfl rfl)
theorem dX4_count_119 : decode cX4_count 119 = .ok (.invokevirtual 453, 3) := dk_182 1 197 (dk_at dksX4_count_3 19 rfl rfl)
theorem dX4_count_122 : decode cX4_count 122 = .ok (.ifCond .eq 7, 3) := dk_153 0 7 (dk_at dksX4_count_4 0 rfl rfl)
theorem dX4_count_125 : decode cX4_count 125 = .ok (.iconst 1, 1) := dk_4 (dk_at dksX4_count_4 3 rfl rfl)
theorem dX4_count_126 : decode cX4_count 126 = .ok (.goto 4, 3) := dk_167 0 4 (dk_at dksX4_count_4 4 rfl rfl)
theorem dX4_count_129 : decode cX4_count 129 = .ok (.iconst 0, 1) := dk_3 (dk_at dksX4_count_4 7 rfl rfl)
theorem dX4_count_130 : decode cX4_count 130 = .ok (.iadd, 1) := dk_96 (dk_at dksX4_count_4 8 rfl rfl)
theorem dX4_count_131 : decode cX4_count 131 = .ok (.istore_n 2, 1) := dk_61 (dk_at dksX4_count_4 9 rfl rfl)
theorem dX4_count_132 : decode cX4_count 132 = .ok (.iinc 3 1, 3) := dk_132 3 1 (dk_at dksX4_count_4 10 rfl rfl)
theorem dX4_count_135 : decode cX4_count 135 = .ok (.goto (-27), 3) := dk_167 255 229 (dk_at dksX4_count_4 13 rfl rfl)
theorem dX4_count_138 : decode cX4_count 138 = .ok (.iload_n 2, 1) := dk_28 (dk_at dksX4_count_4 16 rfl rfl)
theorem dX4_count_139 : decode cX4_count 139 = .ok (.ireturn, 1) := dk_172 (dk_at dksX4_count_4 17 rfl rfl)
theorem dX4_count_140 : decode cX4_count 140 = .ok (.aload_n 0, 1) := dk_42 (dk_at dksX4_count_4 18 rfl rfl)
theorem dX4_count_141 : decode cX4_count 141 = .ok (.getfield 385, 3) := dk_180 1 129 (dk_at dksX4_count_4 19 rfl rfl)
theorem dX4_count_144 : decode cX4_count 144 = .ok (.ireturn, 1) := dk_172 (dk_at dksX4_count_4 22 rfl rfl)
theorem dX4_count_145 : decode cX4_count 145 = .ok (.aload_n 0, 1) := dk_42 (dk_at dksX4_count_4 23 rfl rfl)
theorem dX4_count_146 : decode cX4_count 146 = .ok (.getfield 279, 3) := dk_180 1 23 (dk_at dksX4_count_5 0 rfl rfl)
theorem dX4_count_149 : decode cX4_count 149 = .ok (.ireturn, 1) := dk_172 (dk_at dksX4_count_5 3 rfl rfl)
theorem dX4_count_150 : decode cX4_count 150 = .ok (.aload_n 0, 1) := dk_42 (dk_at dksX4_count_5 4 rfl rfl)
theorem dX4_count_151 : decode cX4_count 151 = .ok (.getfield 11, 3) := dk_180 0 11 (dk_at dksX4_count_5 5 rfl rfl)
theorem dX4_count_154 : decode cX4_count 154 = .ok (.ireturn, 1) := dk_172 (dk_at dksX4_count_5 8 rfl rfl)
theorem dX4_count_155 : decode cX4_count 155 = .ok (.iconst 0, 1) := dk_3 (dk_at dksX4_count_5 9 rfl rfl)
theorem dX4_count_156 : decode cX4_count 156 = .ok (.istore_n 3, 1) := dk_62 (dk_at dksX4_count_5 10 rfl rfl)
theorem dX4_count_157 : decode cX4_count 157 = .ok (.iload_n 3, 1) := dk_29 (dk_at dksX4_count_5 11 rfl rfl)
theorem dX4_count_158 : decode cX4_count 158 = .ok (.aload_n 0, 1) := dk_42 (dk_at dksX4_count_5 12 rfl rfl)
theorem dX4_count_159 : decode cX4_count 159 = .ok (.getfield 372, 3) := dk_180 1 116 (dk_at dksX4_count_5 13 rfl rfl)
theorem dX4_count_162 : decode cX4_count 162 = .ok (.if_icmp .ge 35, 3) := dk_162 0 35 (dk_at dksX4_count_5 16 rfl rfl)
theorem dX4_count_165 : decode cX4_count 165 = .ok (.iload_n 2, 1) := dk_28 (dk_at dksX4_count_5 19 rfl rfl)
theorem dX4_count_166 : decode cX4_count 166 = .ok (.aload_n 0, 1) := dk_42 (dk_at dksX4_count_5 20 rfl rfl)
theorem dX4_count_167 : decode cX4_count 167 = .ok (.iload_n 3, 1) := dk_29 (dk_at dksX4_count_5 21 rfl rfl)
theorem dX4_count_168 : decode cX4_count 168 = .ok (.invokevirtual 394, 3) := dk_182 1 138 (dk_at dksX4_count_6 0 rfl rfl)
theorem dX4_count_171 : decode cX4_count 171 = .ok (.ifCond .eq 17, 3) := dk_153 0 17 (dk_at dksX4_count_6 3 rfl rfl)
theorem dX4_count_174 : decode cX4_count 174 = .ok (.aload_n 0, 1) := dk_42 (dk_at dksX4_count_6 6 rfl rfl)
theorem dX4_count_175 : decode cX4_count 175 = .ok (.getfield 176, 3) := dk_180 0 176 (dk_at dksX4_count_6 7 rfl rfl)
theorem dX4_count_178 : decode cX4_count 178 = .ok (.iload_n 3, 1) := dk_29 (dk_at dksX4_count_6 10 rfl rfl)
theorem dX4_count_179 : decode cX4_count 179 = .ok (.iaload, 1) := dk_46 (dk_at dksX4_count_6 11 rfl rfl)
theorem dX4_count_180 : decode cX4_count 180 = .ok (.iconst 1, 1) := dk_4 (dk_at dksX4_count_6 12 rfl rfl)
theorem dX4_count_181 : decode cX4_count 181 = .ok (.if_icmp .ne 7, 3) := dk_160 0 7 (dk_at dksX4_count_6 13 rfl rfl)
theorem dX4_count_184 : decode cX4_count 184 = .ok (.iconst 1, 1) := dk_4 (dk_at dksX4_count_6 16 rfl rfl)
theorem dX4_count_185 : decode cX4_count 185 = .ok (.goto 4, 3) := dk_167 0 4 (dk_at dksX4_count_6 17 rfl rfl)
theorem dX4_count_188 : decode cX4_count 188 = .ok (.iconst 0, 1) := dk_3 (dk_at dksX4_count_6 20 rfl rfl)
theorem dX4_count_189 : decode cX4_count 189 = .ok (.iadd, 1) := dk_96 (dk_at dksX4_count_6 21 rfl rfl)
theorem dX4_count_190 : decode cX4_count 190 = .ok (.istore_n 2, 1) := dk_61 (dk_at dksX4_count_6 22 rfl rfl)
theorem dX4_count_191 : decode cX4_count 191 = .ok (.iinc 3 1, 3) := dk_132 3 1 (dk_at dksX4_count_7 0 rfl rfl)
theorem dX4_count_194 : decode cX4_count 194 = .ok (.goto (-37), 3) := dk_167 255 219 (dk_at dksX4_count_7 3 rfl rfl)
theorem dX4_count_197 : decode cX4_count 197 = .ok (.iload_n 2, 1) := dk_28 (dk_at dksX4_count_7 6 rfl rfl)
theorem dX4_count_198 : decode cX4_count 198 = .ok (.ireturn, 1) := dk_172 (dk_at dksX4_count_7 7 rfl rfl)
theorem dX4_count_199 : decode cX4_count 199 = .ok (.aload_n 0, 1) := dk_42 (dk_at dksX4_count_7 8 rfl rfl)
theorem dX4_count_200 : decode cX4_count 200 = .ok (.getfield 422, 3) := dk_180 1 166 (dk_at dksX4_count_7 9 rfl rfl)
theorem dX4_count_203 : decode cX4_count 203 = .ok (.ireturn, 1) := dk_172 (dk_at dksX4_count_7 12 rfl rfl)
theorem dX4_count_204 : decode cX4_count 204 = .ok (.iconst (-1), 1) := dk_2 (dk_at dksX4_count_7 13 rfl rfl)
theorem dX4_count_205 : decode cX4_count 205 = .ok (.ireturn, 1) := dk_172 (dk_at dksX4_count_7 14 rfl rfl)
theorem q100 : (Jvm.Cond.initialized "SecretBuyersModel") ∈ lw_all := lw_g (lw_at lw_m1 7 rfl) rfl
theorem q440 : (Jvm.Cond.selects "SecretBuyersModel" ({ cls := "java/lang/Object", name := "getClass", desc := "()Ljava/lang/Class;" } : Jvm.MethodName) ({ cls := "java/lang/Object", name := "getClass", desc := "()Ljava/lang/Class;" } : Jvm.MethodName)) ∈ lw_all := lw_g (lw_at lw_m2 107 rfl) rfl
theorem q1029 : (Jvm.Cond.selects "SecretBuyersModel" ({ cls := "java/lang/Object", name := "equals", desc := "(Ljava/lang/Object;)Z" } : Jvm.MethodName) ({ cls := "java/lang/Object", name := "equals", desc := "(Ljava/lang/Object;)Z" } : Jvm.MethodName)) ∈ lw_all := lw_g (lw_at lw_m4 216 rfl) rfl
theorem q1516 : (Jvm.Cond.instanceMethod ({ cls := "SecretBuyersModel", name := "thrown", desc := "()I" } : Jvm.MethodName)) ∈ lw_all := lw_g (lw_at lw_m6 223 rfl) rfl
theorem q1517 : (Jvm.Cond.selects "SecretBuyersModel" ({ cls := "SecretBuyersModel", name := "thrown", desc := "()I" } : Jvm.MethodName) ({ cls := "SecretBuyersModel", name := "thrown", desc := "()I" } : Jvm.MethodName)) ∈ lw_all := lw_g (lw_at lw_m6 224 rfl) rfl
theorem q1518 : (Jvm.Cond.code ({ cls := "SecretBuyersModel", name := "thrown", desc := "()I" } : Jvm.MethodName) prog_21_method_1_code (1 : Nat) (Option.some Jvm.ClassFile.FieldType.int)) ∈ lw_all := lw_g (lw_at lw_m6 225 rfl) rfl
theorem q1520 : (Jvm.Cond.instanceMethod ({ cls := "SecretBuyersModel", name := "feed", desc := "(JJJ)I" } : Jvm.MethodName)) ∈ lw_all := lw_g (lw_at lw_m6 227 rfl) rfl
theorem q1521 : (Jvm.Cond.selects "SecretBuyersModel" ({ cls := "SecretBuyersModel", name := "feed", desc := "(JJJ)I" } : Jvm.MethodName) ({ cls := "SecretBuyersModel", name := "feed", desc := "(JJJ)I" } : Jvm.MethodName)) ∈ lw_all := lw_g (lw_at lw_m6 228 rfl) rfl
theorem q1522 : (Jvm.Cond.code ({ cls := "SecretBuyersModel", name := "feed", desc := "(JJJ)I" } : Jvm.MethodName) prog_21_method_2_code (7 : Nat) (Option.some Jvm.ClassFile.FieldType.int)) ∈ lw_all := lw_g (lw_at lw_m6 229 rfl) rfl
theorem q1523 : (Jvm.Cond.methodLink "SecretBuyersModel" (7 : Nat) ({ cls := "SecretBuyersModel", name := "lay", desc := "(J)V" } : Jvm.MethodName)) ∈ lw_all := lw_g (lw_at lw_m6 230 rfl) rfl
theorem q1524 : (Jvm.Cond.privateMethod ({ cls := "SecretBuyersModel", name := "lay", desc := "(J)V" } : Jvm.MethodName)) ∈ lw_tbl := lw_at lw_m6 231 rfl
theorem q1525 : (Jvm.Cond.instanceMethod ({ cls := "SecretBuyersModel", name := "lay", desc := "(J)V" } : Jvm.MethodName)) ∈ lw_all := lw_g (lw_at lw_m6 232 rfl) rfl
theorem q1526 : (Jvm.Cond.instantiable "SecretBuyersModel" (81 : Nat)) ∈ lw_all := lw_g (lw_at lw_m6 233 rfl) rfl
theorem q1527 : (Jvm.Cond.code ({ cls := "SecretBuyersModel", name := "lay", desc := "(J)V" } : Jvm.MethodName) prog_21_method_3_code (5 : Nat) (Option.none : Option Jvm.ClassFile.FieldType)) ∈ lw_all := lw_g (lw_at lw_m6 234 rfl) rfl
theorem q1530 : (Jvm.Cond.instanceMethod ({ cls := "SecretBuyersModel", name := "<init>", desc := "()V" } : Jvm.MethodName)) ∈ lw_all := lw_g (lw_at lw_m6 237 rfl) rfl
theorem q1531 : (Jvm.Cond.code ({ cls := "SecretBuyersModel", name := "<init>", desc := "()V" } : Jvm.MethodName) prog_21_method_4_code (1 : Nat) (Option.none : Option Jvm.ClassFile.FieldType)) ∈ lw_all := lw_g (lw_at lw_m6 238 rfl) rfl
theorem q1532 : (Jvm.Cond.methodLink "SecretBuyersModel" (18 : Nat) ({ cls := "java/lang/Object", name := "<init>", desc := "()V" } : Jvm.MethodName)) ∈ lw_all := lw_g (lw_at lw_m6 239 rfl) rfl
theorem q1533 : (Jvm.Cond.constantLong "SecretBuyersModel" (34 : Nat) (16633 : Int64)) ∈ lw_all := lw_g (lw_at lw_m7 0 rfl) rfl
theorem q1534 : (Jvm.Cond.constantLong "SecretBuyersModel" (36 : Nat) (1521 : Int64)) ∈ lw_all := lw_g (lw_at lw_m7 1 rfl) rfl
theorem q1535 : (Jvm.Cond.constantLong "SecretBuyersModel" (38 : Nat) (687961 : Int64)) ∈ lw_all := lw_g (lw_at lw_m7 2 rfl) rfl
theorem q1536 : (Jvm.Cond.constantLong "SecretBuyersModel" (40 : Nat) (4528079 : Int64)) ∈ lw_all := lw_g (lw_at lw_m7 3 rfl) rfl
theorem q1537 : (Jvm.Cond.constantLong "SecretBuyersModel" (42 : Nat) (1176170 : Int64)) ∈ lw_all := lw_g (lw_at lw_m7 4 rfl) rfl
theorem q1538 : (Jvm.Cond.constantLong "SecretBuyersModel" (44 : Nat) (1891 : Int64)) ∈ lw_all := lw_g (lw_at lw_m7 5 rfl) rfl
theorem q1539 : (Jvm.Cond.constantLong "SecretBuyersModel" (46 : Nat) (573 : Int64)) ∈ lw_all := lw_g (lw_at lw_m7 6 rfl) rfl
theorem q1540 : (Jvm.Cond.constantLong "SecretBuyersModel" (48 : Nat) (19741 : Int64)) ∈ lw_all := lw_g (lw_at lw_m7 7 rfl) rfl
theorem q1541 : (Jvm.Cond.constantLong "SecretBuyersModel" (50 : Nat) (483455 : Int64)) ∈ lw_all := lw_g (lw_at lw_m7 8 rfl) rfl
theorem q1542 : (Jvm.Cond.constantLong "SecretBuyersModel" (52 : Nat) (1825 : Int64)) ∈ lw_all := lw_g (lw_at lw_m7 9 rfl) rfl
theorem q1543 : (Jvm.Cond.constantLong "SecretBuyersModel" (54 : Nat) (34005868481 : Int64)) ∈ lw_all := lw_g (lw_at lw_m7 10 rfl) rfl
theorem q1544 : (Jvm.Cond.constantLong "SecretBuyersModel" (56 : Nat) (426554 : Int64)) ∈ lw_all := lw_g (lw_at lw_m7 11 rfl) rfl
theorem q1545 : (Jvm.Cond.constantLong "SecretBuyersModel" (58 : Nat) (46535683828 : Int64)) ∈ lw_all := lw_g (lw_at lw_m7 12 rfl) rfl
theorem q1546 : (Jvm.Cond.constantLong "SecretBuyersModel" (60 : Nat) (1172060 : Int64)) ∈ lw_all := lw_g (lw_at lw_m7 13 rfl) rfl
theorem q1547 : (Jvm.Cond.constantLong "SecretBuyersModel" (62 : Nat) (148383843 : Int64)) ∈ lw_all := lw_g (lw_at lw_m7 14 rfl) rfl
theorem q1548 : (Jvm.Cond.constant "SecretBuyersModel" (203 : Nat) (59049 : Int32)) ∈ lw_all := lw_g (lw_at lw_m7 15 rfl) rfl
theorem q1549 : (Jvm.Cond.fieldLink "SecretBuyersModel" (1 : Nat) "SecretBuyersModel" "thrown" "I") ∈ lw_all := lw_g (lw_at lw_m7 16 rfl) rfl
theorem q1550 : (Jvm.Cond.fieldLink "SecretBuyersModel" (14 : Nat) "SecretBuyersModel" "tape" "[I") ∈ lw_all := lw_g (lw_at lw_m7 17 rfl) rfl
theorem q1551 : (Jvm.Cond.fieldLink "SecretBuyersModel" (11 : Nat) "SecretBuyersModel" "taped" "I") ∈ lw_all := lw_g (lw_at lw_m7 18 rfl) rfl
theorem q1552 : (Jvm.Cond.fieldLink "SecretBuyersModel" (238 : Nat) "SecretBuyersModel" "size" "I") ∈ lw_all := lw_g (lw_at lw_m7 19 rfl) rfl
theorem q1553 : (Jvm.Cond.fieldLink "SecretBuyersModel" (24 : Nat) "SecretBuyersModel" "sort" "[I") ∈ lw_all := lw_g (lw_at lw_m7 20 rfl) rfl
theorem q1554 : (Jvm.Cond.fieldLink "SecretBuyersModel" (27 : Nat) "SecretBuyersModel" "place" "[I") ∈ lw_all := lw_g (lw_at lw_m7 21 rfl) rfl
theorem q1555 : (Jvm.Cond.fieldLink "SecretBuyersModel" (30 : Nat) "SecretBuyersModel" "value" "[J") ∈ lw_all := lw_g (lw_at lw_m7 22 rfl) rfl
theorem q1556 : (Jvm.Cond.fieldLink "SecretBuyersModel" (257 : Nat) "SecretBuyersModel" "at" "I") ∈ lw_all := lw_g (lw_at lw_m7 23 rfl) rfl
theorem q1557 : (Jvm.Cond.fieldLink "SecretBuyersModel" (260 : Nat) "SecretBuyersModel" "fault" "I") ∈ lw_all := lw_g (lw_at lw_m7 24 rfl) rfl
theorem q1558 : (Jvm.Cond.fieldLink "SecretBuyersModel" (64 : Nat) "SecretBuyersModel" "words" "[J") ∈ lw_all := lw_g (lw_at lw_m7 25 rfl) rfl
theorem q1559 : (Jvm.Cond.fieldLink "SecretBuyersModel" (279 : Nat) "SecretBuyersModel" "briefs" "I") ∈ lw_all := lw_g (lw_at lw_m7 26 rfl) rfl
theorem q1560 : (Jvm.Cond.fieldLink "SecretBuyersModel" (67 : Nat) "SecretBuyersModel" "briefChain" "[I") ∈ lw_all := lw_g (lw_at lw_m7 27 rfl) rfl
theorem q1561 : (Jvm.Cond.fieldLink "SecretBuyersModel" (70 : Nat) "SecretBuyersModel" "briefFrom" "[I") ∈ lw_all := lw_g (lw_at lw_m7 28 rfl) rfl
theorem q1562 : (Jvm.Cond.fieldLink "SecretBuyersModel" (73 : Nat) "SecretBuyersModel" "briefOn" "[I") ∈ lw_all := lw_g (lw_at lw_m7 29 rfl) rfl
theorem q1563 : (Jvm.Cond.fieldLink "SecretBuyersModel" (76 : Nat) "SecretBuyersModel" "lines" "[I") ∈ lw_all := lw_g (lw_at lw_m7 30 rfl) rfl
theorem q1564 : (Jvm.Cond.fieldLink "SecretBuyersModel" (79 : Nat) "SecretBuyersModel" "lineKind" "[I") ∈ lw_all := lw_g (lw_at lw_m7 31 rfl) rfl
theorem q1565 : (Jvm.Cond.fieldLink "SecretBuyersModel" (82 : Nat) "SecretBuyersModel" "lineN" "[I") ∈ lw_all := lw_g (lw_at lw_m7 32 rfl) rfl
theorem q1566 : (Jvm.Cond.fieldLink "SecretBuyersModel" (85 : Nat) "SecretBuyersModel" "lineAt" "[I") ∈ lw_all := lw_g (lw_at lw_m7 33 rfl) rfl
theorem q1567 : (Jvm.Cond.fieldLink "SecretBuyersModel" (88 : Nat) "SecretBuyersModel" "lineWhen" "[I") ∈ lw_all := lw_g (lw_at lw_m7 34 rfl) rfl
theorem q1568 : (Jvm.Cond.fieldLink "SecretBuyersModel" (285 : Nat) "SecretBuyersModel" "names" "I") ∈ lw_all := lw_g (lw_at lw_m7 35 rfl) rfl
theorem q1569 : (Jvm.Cond.fieldLink "SecretBuyersModel" (91 : Nat) "SecretBuyersModel" "name" "[J") ∈ lw_all := lw_g (lw_at lw_m7 36 rfl) rfl
theorem q1570 : (Jvm.Cond.fieldLink "SecretBuyersModel" (276 : Nat) "SecretBuyersModel" "codes" "I") ∈ lw_all := lw_g (lw_at lw_m7 37 rfl) rfl
theorem q1571 : (Jvm.Cond.fieldLink "SecretBuyersModel" (94 : Nat) "SecretBuyersModel" "op" "[I") ∈ lw_all := lw_g (lw_at lw_m7 38 rfl) rfl
theorem q1572 : (Jvm.Cond.fieldLink "SecretBuyersModel" (97 : Nat) "SecretBuyersModel" "one" "[I") ∈ lw_all := lw_g (lw_at lw_m7 39 rfl) rfl
theorem q1573 : (Jvm.Cond.fieldLink "SecretBuyersModel" (100 : Nat) "SecretBuyersModel" "known" "[I") ∈ lw_all := lw_g (lw_at lw_m7 40 rfl) rfl
theorem q1574 : (Jvm.Cond.fieldLink "SecretBuyersModel" (342 : Nat) "SecretBuyersModel" "form" "I") ∈ lw_all := lw_g (lw_at lw_m7 41 rfl) rfl
theorem q1575 : (Jvm.Cond.fieldLink "SecretBuyersModel" (103 : Nat) "SecretBuyersModel" "named" "[I") ∈ lw_all := lw_g (lw_at lw_m7 42 rfl) rfl
theorem q1576 : (Jvm.Cond.fieldLink "SecretBuyersModel" (106 : Nat) "SecretBuyersModel" "pile" "[I") ∈ lw_all := lw_g (lw_at lw_m7 43 rfl) rfl
theorem q1577 : (Jvm.Cond.fieldLink "SecretBuyersModel" (349 : Nat) "SecretBuyersModel" "scored" "I") ∈ lw_all := lw_g (lw_at lw_m7 44 rfl) rfl
theorem q1578 : (Jvm.Cond.fieldLink "SecretBuyersModel" (352 : Nat) "SecretBuyersModel" "bonused" "I") ∈ lw_all := lw_g (lw_at lw_m7 45 rfl) rfl
theorem q1579 : (Jvm.Cond.fieldLink "SecretBuyersModel" (295 : Nat) "SecretBuyersModel" "now" "I") ∈ lw_all := lw_g (lw_at lw_m7 46 rfl) rfl
theorem q1580 : (Jvm.Cond.fieldLink "SecretBuyersModel" (216 : Nat) "SecretBuyersModel" "viewed" "I") ∈ lw_all := lw_g (lw_at lw_m7 47 rfl) rfl
theorem q1581 : (Jvm.Cond.fieldLink "SecretBuyersModel" (366 : Nat) "SecretBuyersModel" "shops" "I") ∈ lw_all := lw_g (lw_at lw_m7 48 rfl) rfl
theorem q1582 : (Jvm.Cond.fieldLink "SecretBuyersModel" (109 : Nat) "SecretBuyersModel" "shopX" "[I") ∈ lw_all := lw_g (lw_at lw_m7 49 rfl) rfl
theorem q1583 : (Jvm.Cond.fieldLink "SecretBuyersModel" (112 : Nat) "SecretBuyersModel" "shopY" "[I") ∈ lw_all := lw_g (lw_at lw_m7 50 rfl) rfl
theorem q1584 : (Jvm.Cond.fieldLink "SecretBuyersModel" (115 : Nat) "SecretBuyersModel" "chainOf" "[I") ∈ lw_all := lw_g (lw_at lw_m7 51 rfl) rfl
theorem q1585 : (Jvm.Cond.fieldLink "SecretBuyersModel" (118 : Nat) "SecretBuyersModel" "opens" "[I") ∈ lw_all := lw_g (lw_at lw_m7 52 rfl) rfl
theorem q1586 : (Jvm.Cond.fieldLink "SecretBuyersModel" (121 : Nat) "SecretBuyersModel" "closes" "[I") ∈ lw_all := lw_g (lw_at lw_m7 53 rfl) rfl
theorem q1587 : (Jvm.Cond.fieldLink "SecretBuyersModel" (124 : Nat) "SecretBuyersModel" "records" "[Z") ∈ lw_all := lw_g (lw_at lw_m7 54 rfl) rfl
theorem q1588 : (Jvm.Cond.fieldLink "SecretBuyersModel" (369 : Nat) "SecretBuyersModel" "buyers" "I") ∈ lw_all := lw_g (lw_at lw_m7 55 rfl) rfl
theorem q1589 : (Jvm.Cond.fieldLink "SecretBuyersModel" (128 : Nat) "SecretBuyersModel" "homeX" "[I") ∈ lw_all := lw_g (lw_at lw_m7 56 rfl) rfl
theorem q1590 : (Jvm.Cond.fieldLink "SecretBuyersModel" (131 : Nat) "SecretBuyersModel" "homeY" "[I") ∈ lw_all := lw_g (lw_at lw_m7 57 rfl) rfl
theorem q1591 : (Jvm.Cond.fieldLink "SecretBuyersModel" (219 : Nat) "SecretBuyersModel" "pace" "I") ∈ lw_all := lw_g (lw_at lw_m7 58 rfl) rfl
theorem q1592 : (Jvm.Cond.fieldLink "SecretBuyersModel" (222 : Nat) "SecretBuyersModel" "fee" "I") ∈ lw_all := lw_g (lw_at lw_m7 59 rfl) rfl
theorem q1593 : (Jvm.Cond.fieldLink "SecretBuyersModel" (225 : Nat) "SecretBuyersModel" "spread" "I") ∈ lw_all := lw_g (lw_at lw_m7 60 rfl) rfl
theorem q1594 : (Jvm.Cond.fieldLink "SecretBuyersModel" (228 : Nat) "SecretBuyersModel" "restDays" "I") ∈ lw_all := lw_g (lw_at lw_m7 61 rfl) rfl
theorem q1595 : (Jvm.Cond.fieldLink "SecretBuyersModel" (231 : Nat) "SecretBuyersModel" "reach" "I") ∈ lw_all := lw_g (lw_at lw_m7 62 rfl) rfl
theorem q1596 : (Jvm.Cond.fieldLink "SecretBuyersModel" (372 : Nat) "SecretBuyersModel" "visits" "I") ∈ lw_all := lw_g (lw_at lw_m7 63 rfl) rfl
theorem q1597 : (Jvm.Cond.fieldLink "SecretBuyersModel" (134 : Nat) "SecretBuyersModel" "shopOf" "[I") ∈ lw_all := lw_g (lw_at lw_m7 64 rfl) rfl
theorem q1598 : (Jvm.Cond.fieldLink "SecretBuyersModel" (137 : Nat) "SecretBuyersModel" "buyerOf" "[I") ∈ lw_all := lw_g (lw_at lw_m7 65 rfl) rfl
theorem q1599 : (Jvm.Cond.fieldLink "SecretBuyersModel" (140 : Nat) "SecretBuyersModel" "dayOf" "[I") ∈ lw_all := lw_g (lw_at lw_m7 66 rfl) rfl
theorem q1600 : (Jvm.Cond.fieldLink "SecretBuyersModel" (143 : Nat) "SecretBuyersModel" "minuteOf" "[I") ∈ lw_all := lw_g (lw_at lw_m7 67 rfl) rfl
theorem q1601 : (Jvm.Cond.fieldLink "SecretBuyersModel" (146 : Nat) "SecretBuyersModel" "manyOf" "[I") ∈ lw_all := lw_g (lw_at lw_m7 68 rfl) rfl
theorem q1602 : (Jvm.Cond.fieldLink "SecretBuyersModel" (149 : Nat) "SecretBuyersModel" "formOf" "[I") ∈ lw_all := lw_g (lw_at lw_m7 69 rfl) rfl
theorem q1603 : (Jvm.Cond.fieldLink "SecretBuyersModel" (152 : Nat) "SecretBuyersModel" "receiptOf" "[I") ∈ lw_all := lw_g (lw_at lw_m7 70 rfl) rfl
theorem q1604 : (Jvm.Cond.fieldLink "SecretBuyersModel" (155 : Nat) "SecretBuyersModel" "toldOn" "[I") ∈ lw_all := lw_g (lw_at lw_m7 71 rfl) rfl
theorem q1605 : (Jvm.Cond.fieldLink "SecretBuyersModel" (385 : Nat) "SecretBuyersModel" "appeals" "I") ∈ lw_all := lw_g (lw_at lw_m7 72 rfl) rfl
theorem q1606 : (Jvm.Cond.fieldLink "SecretBuyersModel" (158 : Nat) "SecretBuyersModel" "appealOf" "[I") ∈ lw_all := lw_g (lw_at lw_m7 73 rfl) rfl
theorem q1607 : (Jvm.Cond.fieldLink "SecretBuyersModel" (161 : Nat) "SecretBuyersModel" "appealItem" "[I") ∈ lw_all := lw_g (lw_at lw_m7 74 rfl) rfl
theorem q1608 : (Jvm.Cond.fieldLink "SecretBuyersModel" (164 : Nat) "SecretBuyersModel" "appealOn" "[I") ∈ lw_all := lw_g (lw_at lw_m7 75 rfl) rfl
theorem q1609 : (Jvm.Cond.fieldLink "SecretBuyersModel" (400 : Nat) "SecretBuyersModel" "seenMany" "I") ∈ lw_all := lw_g (lw_at lw_m7 76 rfl) rfl
theorem q1610 : (Jvm.Cond.fieldLink "SecretBuyersModel" (167 : Nat) "SecretBuyersModel" "line" "[I") ∈ lw_all := lw_g (lw_at lw_m7 77 rfl) rfl
theorem q1611 : (Jvm.Cond.fieldLink "SecretBuyersModel" (170 : Nat) "SecretBuyersModel" "score" "[I") ∈ lw_all := lw_g (lw_at lw_m7 78 rfl) rfl
theorem q1612 : (Jvm.Cond.fieldLink "SecretBuyersModel" (173 : Nat) "SecretBuyersModel" "bonus" "[I") ∈ lw_all := lw_g (lw_at lw_m7 79 rfl) rfl
theorem q1613 : (Jvm.Cond.fieldLink "SecretBuyersModel" (176 : Nat) "SecretBuyersModel" "state" "[I") ∈ lw_all := lw_g (lw_at lw_m7 80 rfl) rfl
theorem q1614 : (Jvm.Cond.fieldLink "SecretBuyersModel" (435 : Nat) "SecretBuyersModel" "these" "I") ∈ lw_all := lw_g (lw_at lw_m7 81 rfl) rfl
theorem q1615 : (Jvm.Cond.fieldLink "SecretBuyersModel" (179 : Nat) "SecretBuyersModel" "thisOne" "[I") ∈ lw_all := lw_g (lw_at lw_m7 82 rfl) rfl
theorem q1616 : (Jvm.Cond.fieldLink "SecretBuyersModel" (182 : Nat) "SecretBuyersModel" "quarrels" "[Z") ∈ lw_all := lw_g (lw_at lw_m7 83 rfl) rfl
theorem q1617 : (Jvm.Cond.fieldLink "SecretBuyersModel" (428 : Nat) "SecretBuyersModel" "fewest" "I") ∈ lw_all := lw_g (lw_at lw_m7 84 rfl) rfl
theorem q1618 : (Jvm.Cond.fieldLink "SecretBuyersModel" (441 : Nat) "SecretBuyersModel" "firstSet" "I") ∈ lw_all := lw_g (lw_at lw_m7 85 rfl) rfl
theorem q1619 : (Jvm.Cond.fieldLink "SecretBuyersModel" (422 : Nat) "SecretBuyersModel" "fewestAll" "I") ∈ lw_all := lw_g (lw_at lw_m7 86 rfl) rfl
theorem q1620 : (Jvm.Cond.fieldLink "SecretBuyersModel" (185 : Nat) "SecretBuyersModel" "leans" "[I") ∈ lw_all := lw_g (lw_at lw_m7 87 rfl) rfl
theorem q1621 : (Jvm.Cond.fieldLink "SecretBuyersModel" (188 : Nat) "SecretBuyersModel" "met" "[I") ∈ lw_all := lw_g (lw_at lw_m7 88 rfl) rfl
theorem q1622 : (Jvm.Cond.fieldLink "SecretBuyersModel" (191 : Nat) "SecretBuyersModel" "meanOf" "[I") ∈ lw_all := lw_g (lw_at lw_m7 89 rfl) rfl
theorem q1623 : (Jvm.Cond.fieldLink "SecretBuyersModel" (194 : Nat) "SecretBuyersModel" "countOf" "[I") ∈ lw_all := lw_g (lw_at lw_m7 90 rfl) rfl
theorem q1624 : (Jvm.Cond.fieldLink "SecretBuyersModel" (197 : Nat) "SecretBuyersModel" "rowTo" "[I") ∈ lw_all := lw_g (lw_at lw_m7 91 rfl) rfl
theorem q1625 : (Jvm.Cond.fieldLink "SecretBuyersModel" (200 : Nat) "SecretBuyersModel" "power" "[I") ∈ lw_all := lw_g (lw_at lw_m7 92 rfl) rfl
theorem q1626 : (Jvm.Cond.fieldLink "SecretBuyersModel" (204 : Nat) "SecretBuyersModel" "least" "[I") ∈ lw_all := lw_g (lw_at lw_m7 93 rfl) rfl
theorem q1627 : (Jvm.Cond.fieldLink "SecretBuyersModel" (207 : Nat) "SecretBuyersModel" "givenShop" "[I") ∈ lw_all := lw_g (lw_at lw_m7 94 rfl) rfl
theorem q1628 : (Jvm.Cond.fieldLink "SecretBuyersModel" (210 : Nat) "SecretBuyersModel" "givenBuyer" "[I") ∈ lw_all := lw_g (lw_at lw_m7 95 rfl) rfl
theorem q1629 : (Jvm.Cond.fieldLink "SecretBuyersModel" (213 : Nat) "SecretBuyersModel" "goes" "[I") ∈ lw_all := lw_g (lw_at lw_m7 96 rfl) rfl
theorem q1630 : (Jvm.Cond.lays "SecretBuyersModel" "SecretBuyersModel" "thrown" "I") ∈ lw_all := lw_g (lw_at lw_m7 97 rfl) rfl
theorem q1631 : (Jvm.Cond.soleField "SecretBuyersModel" "thrown") ∈ lw_all := lw_g (lw_at lw_m7 98 rfl) rfl
theorem q1632 : (Jvm.Cond.laysFinal "SecretBuyersModel" "SecretBuyersModel" "tape" "[I") ∈ lw_all := lw_g (lw_at lw_m7 99 rfl) rfl
theorem q1633 : (Jvm.Cond.soleField "SecretBuyersModel" "tape") ∈ lw_all := lw_g (lw_at lw_m7 100 rfl) rfl
theorem q1634 : (Jvm.Cond.lays "SecretBuyersModel" "SecretBuyersModel" "taped" "I") ∈ lw_all := lw_g (lw_at lw_m7 101 rfl) rfl
theorem q1635 : (Jvm.Cond.soleField "SecretBuyersModel" "taped") ∈ lw_all := lw_g (lw_at lw_m7 102 rfl) rfl
theorem q1636 : (Jvm.Cond.lays "SecretBuyersModel" "SecretBuyersModel" "size" "I") ∈ lw_all := lw_g (lw_at lw_m7 103 rfl) rfl
theorem q1637 : (Jvm.Cond.soleField "SecretBuyersModel" "size") ∈ lw_all := lw_g (lw_at lw_m7 104 rfl) rfl
theorem q1638 : (Jvm.Cond.laysFinal "SecretBuyersModel" "SecretBuyersModel" "sort" "[I") ∈ lw_all := lw_g (lw_at lw_m7 105 rfl) rfl
theorem q1639 : (Jvm.Cond.soleField "SecretBuyersModel" "sort") ∈ lw_all := lw_g (lw_at lw_m7 106 rfl) rfl
theorem q1640 : (Jvm.Cond.laysFinal "SecretBuyersModel" "SecretBuyersModel" "place" "[I") ∈ lw_all := lw_g (lw_at lw_m7 107 rfl) rfl
theorem q1641 : (Jvm.Cond.soleField "SecretBuyersModel" "place") ∈ lw_all := lw_g (lw_at lw_m7 108 rfl) rfl
theorem q1642 : (Jvm.Cond.laysFinal "SecretBuyersModel" "SecretBuyersModel" "value" "[J") ∈ lw_all := lw_g (lw_at lw_m7 109 rfl) rfl
theorem q1643 : (Jvm.Cond.soleField "SecretBuyersModel" "value") ∈ lw_all := lw_g (lw_at lw_m7 110 rfl) rfl
theorem q1644 : (Jvm.Cond.lays "SecretBuyersModel" "SecretBuyersModel" "at" "I") ∈ lw_all := lw_g (lw_at lw_m7 111 rfl) rfl
theorem q1645 : (Jvm.Cond.soleField "SecretBuyersModel" "at") ∈ lw_all := lw_g (lw_at lw_m7 112 rfl) rfl
theorem q1646 : (Jvm.Cond.lays "SecretBuyersModel" "SecretBuyersModel" "fault" "I") ∈ lw_all := lw_g (lw_at lw_m7 113 rfl) rfl
theorem q1647 : (Jvm.Cond.soleField "SecretBuyersModel" "fault") ∈ lw_all := lw_g (lw_at lw_m7 114 rfl) rfl
theorem q1648 : (Jvm.Cond.laysFinal "SecretBuyersModel" "SecretBuyersModel" "words" "[J") ∈ lw_all := lw_g (lw_at lw_m7 115 rfl) rfl
theorem q1649 : (Jvm.Cond.soleField "SecretBuyersModel" "words") ∈ lw_all := lw_g (lw_at lw_m7 116 rfl) rfl
theorem q1650 : (Jvm.Cond.lays "SecretBuyersModel" "SecretBuyersModel" "briefs" "I") ∈ lw_all := lw_g (lw_at lw_m7 117 rfl) rfl
theorem q1651 : (Jvm.Cond.soleField "SecretBuyersModel" "briefs") ∈ lw_all := lw_g (lw_at lw_m7 118 rfl) rfl
theorem q1652 : (Jvm.Cond.laysFinal "SecretBuyersModel" "SecretBuyersModel" "briefChain" "[I") ∈ lw_all := lw_g (lw_at lw_m7 119 rfl) rfl
theorem q1653 : (Jvm.Cond.soleField "SecretBuyersModel" "briefChain") ∈ lw_all := lw_g (lw_at lw_m7 120 rfl) rfl
theorem q1654 : (Jvm.Cond.laysFinal "SecretBuyersModel" "SecretBuyersModel" "briefFrom" "[I") ∈ lw_all := lw_g (lw_at lw_m7 121 rfl) rfl
theorem q1655 : (Jvm.Cond.soleField "SecretBuyersModel" "briefFrom") ∈ lw_all := lw_g (lw_at lw_m7 122 rfl) rfl
theorem q1656 : (Jvm.Cond.laysFinal "SecretBuyersModel" "SecretBuyersModel" "briefOn" "[I") ∈ lw_all := lw_g (lw_at lw_m7 123 rfl) rfl
theorem q1657 : (Jvm.Cond.soleField "SecretBuyersModel" "briefOn") ∈ lw_all := lw_g (lw_at lw_m7 124 rfl) rfl
theorem q1658 : (Jvm.Cond.laysFinal "SecretBuyersModel" "SecretBuyersModel" "lines" "[I") ∈ lw_all := lw_g (lw_at lw_m7 125 rfl) rfl
theorem q1659 : (Jvm.Cond.soleField "SecretBuyersModel" "lines") ∈ lw_all := lw_g (lw_at lw_m7 126 rfl) rfl
theorem q1660 : (Jvm.Cond.laysFinal "SecretBuyersModel" "SecretBuyersModel" "lineKind" "[I") ∈ lw_all := lw_g (lw_at lw_m7 127 rfl) rfl
theorem q1661 : (Jvm.Cond.soleField "SecretBuyersModel" "lineKind") ∈ lw_all := lw_g (lw_at lw_m7 128 rfl) rfl
theorem q1662 : (Jvm.Cond.laysFinal "SecretBuyersModel" "SecretBuyersModel" "lineN" "[I") ∈ lw_all := lw_g (lw_at lw_m7 129 rfl) rfl
theorem q1663 : (Jvm.Cond.soleField "SecretBuyersModel" "lineN") ∈ lw_all := lw_g (lw_at lw_m7 130 rfl) rfl
theorem q1664 : (Jvm.Cond.laysFinal "SecretBuyersModel" "SecretBuyersModel" "lineAt" "[I") ∈ lw_all := lw_g (lw_at lw_m7 131 rfl) rfl
theorem q1665 : (Jvm.Cond.soleField "SecretBuyersModel" "lineAt") ∈ lw_all := lw_g (lw_at lw_m7 132 rfl) rfl
theorem q1666 : (Jvm.Cond.laysFinal "SecretBuyersModel" "SecretBuyersModel" "lineWhen" "[I") ∈ lw_all := lw_g (lw_at lw_m7 133 rfl) rfl
theorem q1667 : (Jvm.Cond.soleField "SecretBuyersModel" "lineWhen") ∈ lw_all := lw_g (lw_at lw_m7 134 rfl) rfl
theorem q1668 : (Jvm.Cond.lays "SecretBuyersModel" "SecretBuyersModel" "names" "I") ∈ lw_all := lw_g (lw_at lw_m7 135 rfl) rfl
theorem q1669 : (Jvm.Cond.soleField "SecretBuyersModel" "names") ∈ lw_all := lw_g (lw_at lw_m7 136 rfl) rfl
theorem q1670 : (Jvm.Cond.laysFinal "SecretBuyersModel" "SecretBuyersModel" "name" "[J") ∈ lw_all := lw_g (lw_at lw_m7 137 rfl) rfl
theorem q1671 : (Jvm.Cond.soleField "SecretBuyersModel" "name") ∈ lw_all := lw_g (lw_at lw_m7 138 rfl) rfl
theorem q1672 : (Jvm.Cond.lays "SecretBuyersModel" "SecretBuyersModel" "codes" "I") ∈ lw_all := lw_g (lw_at lw_m7 139 rfl) rfl
theorem q1673 : (Jvm.Cond.soleField "SecretBuyersModel" "codes") ∈ lw_all := lw_g (lw_at lw_m7 140 rfl) rfl
theorem q1674 : (Jvm.Cond.laysFinal "SecretBuyersModel" "SecretBuyersModel" "op" "[I") ∈ lw_all := lw_g (lw_at lw_m7 141 rfl) rfl
theorem q1675 : (Jvm.Cond.soleField "SecretBuyersModel" "op") ∈ lw_all := lw_g (lw_at lw_m7 142 rfl) rfl
theorem q1676 : (Jvm.Cond.laysFinal "SecretBuyersModel" "SecretBuyersModel" "one" "[I") ∈ lw_all := lw_g (lw_at lw_m7 143 rfl) rfl
theorem q1677 : (Jvm.Cond.soleField "SecretBuyersModel" "one") ∈ lw_all := lw_g (lw_at lw_m7 144 rfl) rfl
theorem q1678 : (Jvm.Cond.laysFinal "SecretBuyersModel" "SecretBuyersModel" "known" "[I") ∈ lw_all := lw_g (lw_at lw_m7 145 rfl) rfl
theorem q1679 : (Jvm.Cond.soleField "SecretBuyersModel" "known") ∈ lw_all := lw_g (lw_at lw_m7 146 rfl) rfl
theorem q1680 : (Jvm.Cond.lays "SecretBuyersModel" "SecretBuyersModel" "form" "I") ∈ lw_all := lw_g (lw_at lw_m7 147 rfl) rfl
theorem q1681 : (Jvm.Cond.soleField "SecretBuyersModel" "form") ∈ lw_all := lw_g (lw_at lw_m7 148 rfl) rfl
theorem q1682 : (Jvm.Cond.laysFinal "SecretBuyersModel" "SecretBuyersModel" "named" "[I") ∈ lw_all := lw_g (lw_at lw_m7 149 rfl) rfl
theorem q1683 : (Jvm.Cond.soleField "SecretBuyersModel" "named") ∈ lw_all := lw_g (lw_at lw_m7 150 rfl) rfl
theorem q1684 : (Jvm.Cond.laysFinal "SecretBuyersModel" "SecretBuyersModel" "pile" "[I") ∈ lw_all := lw_g (lw_at lw_m7 151 rfl) rfl
theorem q1685 : (Jvm.Cond.soleField "SecretBuyersModel" "pile") ∈ lw_all := lw_g (lw_at lw_m7 152 rfl) rfl
theorem q1686 : (Jvm.Cond.lays "SecretBuyersModel" "SecretBuyersModel" "scored" "I") ∈ lw_all := lw_g (lw_at lw_m7 153 rfl) rfl
theorem q1687 : (Jvm.Cond.soleField "SecretBuyersModel" "scored") ∈ lw_all := lw_g (lw_at lw_m7 154 rfl) rfl
theorem q1688 : (Jvm.Cond.lays "SecretBuyersModel" "SecretBuyersModel" "bonused" "I") ∈ lw_all := lw_g (lw_at lw_m7 155 rfl) rfl
theorem q1689 : (Jvm.Cond.soleField "SecretBuyersModel" "bonused") ∈ lw_all := lw_g (lw_at lw_m7 156 rfl) rfl
theorem q1690 : (Jvm.Cond.lays "SecretBuyersModel" "SecretBuyersModel" "now" "I") ∈ lw_all := lw_g (lw_at lw_m7 157 rfl) rfl
theorem q1691 : (Jvm.Cond.soleField "SecretBuyersModel" "now") ∈ lw_all := lw_g (lw_at lw_m7 158 rfl) rfl
theorem q1692 : (Jvm.Cond.lays "SecretBuyersModel" "SecretBuyersModel" "viewed" "I") ∈ lw_all := lw_g (lw_at lw_m7 159 rfl) rfl
theorem q1693 : (Jvm.Cond.soleField "SecretBuyersModel" "viewed") ∈ lw_all := lw_g (lw_at lw_m7 160 rfl) rfl
theorem q1694 : (Jvm.Cond.lays "SecretBuyersModel" "SecretBuyersModel" "shops" "I") ∈ lw_all := lw_g (lw_at lw_m7 161 rfl) rfl
theorem q1695 : (Jvm.Cond.soleField "SecretBuyersModel" "shops") ∈ lw_all := lw_g (lw_at lw_m7 162 rfl) rfl
theorem q1696 : (Jvm.Cond.laysFinal "SecretBuyersModel" "SecretBuyersModel" "shopX" "[I") ∈ lw_all := lw_g (lw_at lw_m7 163 rfl) rfl
theorem q1697 : (Jvm.Cond.soleField "SecretBuyersModel" "shopX") ∈ lw_all := lw_g (lw_at lw_m7 164 rfl) rfl
theorem q1698 : (Jvm.Cond.laysFinal "SecretBuyersModel" "SecretBuyersModel" "shopY" "[I") ∈ lw_all := lw_g (lw_at lw_m7 165 rfl) rfl
theorem q1699 : (Jvm.Cond.soleField "SecretBuyersModel" "shopY") ∈ lw_all := lw_g (lw_at lw_m7 166 rfl) rfl
theorem q1700 : (Jvm.Cond.laysFinal "SecretBuyersModel" "SecretBuyersModel" "chainOf" "[I") ∈ lw_all := lw_g (lw_at lw_m7 167 rfl) rfl
theorem q1701 : (Jvm.Cond.soleField "SecretBuyersModel" "chainOf") ∈ lw_all := lw_g (lw_at lw_m7 168 rfl) rfl
theorem q1702 : (Jvm.Cond.laysFinal "SecretBuyersModel" "SecretBuyersModel" "opens" "[I") ∈ lw_all := lw_g (lw_at lw_m7 169 rfl) rfl
theorem q1703 : (Jvm.Cond.soleField "SecretBuyersModel" "opens") ∈ lw_all := lw_g (lw_at lw_m7 170 rfl) rfl
theorem q1704 : (Jvm.Cond.laysFinal "SecretBuyersModel" "SecretBuyersModel" "closes" "[I") ∈ lw_all := lw_g (lw_at lw_m7 171 rfl) rfl
theorem q1705 : (Jvm.Cond.soleField "SecretBuyersModel" "closes") ∈ lw_all := lw_g (lw_at lw_m7 172 rfl) rfl
theorem q1706 : (Jvm.Cond.laysFinal "SecretBuyersModel" "SecretBuyersModel" "records" "[Z") ∈ lw_all := lw_g (lw_at lw_m7 173 rfl) rfl
theorem q1707 : (Jvm.Cond.soleField "SecretBuyersModel" "records") ∈ lw_all := lw_g (lw_at lw_m7 174 rfl) rfl
theorem q1708 : (Jvm.Cond.lays "SecretBuyersModel" "SecretBuyersModel" "buyers" "I") ∈ lw_all := lw_g (lw_at lw_m7 175 rfl) rfl
theorem q1709 : (Jvm.Cond.soleField "SecretBuyersModel" "buyers") ∈ lw_all := lw_g (lw_at lw_m7 176 rfl) rfl
theorem q1710 : (Jvm.Cond.laysFinal "SecretBuyersModel" "SecretBuyersModel" "homeX" "[I") ∈ lw_all := lw_g (lw_at lw_m7 177 rfl) rfl
theorem q1711 : (Jvm.Cond.soleField "SecretBuyersModel" "homeX") ∈ lw_all := lw_g (lw_at lw_m7 178 rfl) rfl
theorem q1712 : (Jvm.Cond.laysFinal "SecretBuyersModel" "SecretBuyersModel" "homeY" "[I") ∈ lw_all := lw_g (lw_at lw_m7 179 rfl) rfl
theorem q1713 : (Jvm.Cond.soleField "SecretBuyersModel" "homeY") ∈ lw_all := lw_g (lw_at lw_m7 180 rfl) rfl
theorem q1714 : (Jvm.Cond.lays "SecretBuyersModel" "SecretBuyersModel" "pace" "I") ∈ lw_all := lw_g (lw_at lw_m7 181 rfl) rfl
theorem q1715 : (Jvm.Cond.soleField "SecretBuyersModel" "pace") ∈ lw_all := lw_g (lw_at lw_m7 182 rfl) rfl
theorem q1716 : (Jvm.Cond.lays "SecretBuyersModel" "SecretBuyersModel" "fee" "I") ∈ lw_all := lw_g (lw_at lw_m7 183 rfl) rfl
theorem q1717 : (Jvm.Cond.soleField "SecretBuyersModel" "fee") ∈ lw_all := lw_g (lw_at lw_m7 184 rfl) rfl
theorem q1718 : (Jvm.Cond.lays "SecretBuyersModel" "SecretBuyersModel" "spread" "I") ∈ lw_all := lw_g (lw_at lw_m7 185 rfl) rfl
theorem q1719 : (Jvm.Cond.soleField "SecretBuyersModel" "spread") ∈ lw_all := lw_g (lw_at lw_m7 186 rfl) rfl
theorem q1720 : (Jvm.Cond.lays "SecretBuyersModel" "SecretBuyersModel" "restDays" "I") ∈ lw_all := lw_g (lw_at lw_m7 187 rfl) rfl
theorem q1721 : (Jvm.Cond.soleField "SecretBuyersModel" "restDays") ∈ lw_all := lw_g (lw_at lw_m7 188 rfl) rfl
theorem q1722 : (Jvm.Cond.lays "SecretBuyersModel" "SecretBuyersModel" "reach" "I") ∈ lw_all := lw_g (lw_at lw_m7 189 rfl) rfl
theorem q1723 : (Jvm.Cond.soleField "SecretBuyersModel" "reach") ∈ lw_all := lw_g (lw_at lw_m7 190 rfl) rfl
theorem q1724 : (Jvm.Cond.lays "SecretBuyersModel" "SecretBuyersModel" "visits" "I") ∈ lw_all := lw_g (lw_at lw_m7 191 rfl) rfl
theorem q1725 : (Jvm.Cond.soleField "SecretBuyersModel" "visits") ∈ lw_all := lw_g (lw_at lw_m7 192 rfl) rfl
theorem q1726 : (Jvm.Cond.laysFinal "SecretBuyersModel" "SecretBuyersModel" "shopOf" "[I") ∈ lw_all := lw_g (lw_at lw_m7 193 rfl) rfl
theorem q1727 : (Jvm.Cond.soleField "SecretBuyersModel" "shopOf") ∈ lw_all := lw_g (lw_at lw_m7 194 rfl) rfl
theorem q1728 : (Jvm.Cond.laysFinal "SecretBuyersModel" "SecretBuyersModel" "buyerOf" "[I") ∈ lw_all := lw_g (lw_at lw_m7 195 rfl) rfl
theorem q1729 : (Jvm.Cond.soleField "SecretBuyersModel" "buyerOf") ∈ lw_all := lw_g (lw_at lw_m7 196 rfl) rfl
theorem q1730 : (Jvm.Cond.laysFinal "SecretBuyersModel" "SecretBuyersModel" "dayOf" "[I") ∈ lw_all := lw_g (lw_at lw_m7 197 rfl) rfl
theorem q1731 : (Jvm.Cond.soleField "SecretBuyersModel" "dayOf") ∈ lw_all := lw_g (lw_at lw_m7 198 rfl) rfl
theorem q1732 : (Jvm.Cond.laysFinal "SecretBuyersModel" "SecretBuyersModel" "minuteOf" "[I") ∈ lw_all := lw_g (lw_at lw_m7 199 rfl) rfl
theorem q1733 : (Jvm.Cond.soleField "SecretBuyersModel" "minuteOf") ∈ lw_all := lw_g (lw_at lw_m7 200 rfl) rfl
theorem q1734 : (Jvm.Cond.laysFinal "SecretBuyersModel" "SecretBuyersModel" "manyOf" "[I") ∈ lw_all := lw_g (lw_at lw_m7 201 rfl) rfl
theorem q1735 : (Jvm.Cond.soleField "SecretBuyersModel" "manyOf") ∈ lw_all := lw_g (lw_at lw_m7 202 rfl) rfl
theorem q1736 : (Jvm.Cond.laysFinal "SecretBuyersModel" "SecretBuyersModel" "formOf" "[I") ∈ lw_all := lw_g (lw_at lw_m7 203 rfl) rfl
theorem q1737 : (Jvm.Cond.soleField "SecretBuyersModel" "formOf") ∈ lw_all := lw_g (lw_at lw_m7 204 rfl) rfl
theorem q1738 : (Jvm.Cond.laysFinal "SecretBuyersModel" "SecretBuyersModel" "receiptOf" "[I") ∈ lw_all := lw_g (lw_at lw_m7 205 rfl) rfl
theorem q1739 : (Jvm.Cond.soleField "SecretBuyersModel" "receiptOf") ∈ lw_all := lw_g (lw_at lw_m7 206 rfl) rfl
theorem q1740 : (Jvm.Cond.laysFinal "SecretBuyersModel" "SecretBuyersModel" "toldOn" "[I") ∈ lw_all := lw_g (lw_at lw_m7 207 rfl) rfl
theorem q1741 : (Jvm.Cond.soleField "SecretBuyersModel" "toldOn") ∈ lw_all := lw_g (lw_at lw_m7 208 rfl) rfl
theorem q1742 : (Jvm.Cond.lays "SecretBuyersModel" "SecretBuyersModel" "appeals" "I") ∈ lw_all := lw_g (lw_at lw_m7 209 rfl) rfl
theorem q1743 : (Jvm.Cond.soleField "SecretBuyersModel" "appeals") ∈ lw_all := lw_g (lw_at lw_m7 210 rfl) rfl
theorem q1744 : (Jvm.Cond.laysFinal "SecretBuyersModel" "SecretBuyersModel" "appealOf" "[I") ∈ lw_all := lw_g (lw_at lw_m7 211 rfl) rfl
theorem q1745 : (Jvm.Cond.soleField "SecretBuyersModel" "appealOf") ∈ lw_all := lw_g (lw_at lw_m7 212 rfl) rfl
theorem q1746 : (Jvm.Cond.laysFinal "SecretBuyersModel" "SecretBuyersModel" "appealItem" "[I") ∈ lw_all := lw_g (lw_at lw_m7 213 rfl) rfl
theorem q1747 : (Jvm.Cond.soleField "SecretBuyersModel" "appealItem") ∈ lw_all := lw_g (lw_at lw_m7 214 rfl) rfl
theorem q1748 : (Jvm.Cond.laysFinal "SecretBuyersModel" "SecretBuyersModel" "appealOn" "[I") ∈ lw_all := lw_g (lw_at lw_m7 215 rfl) rfl
theorem q1749 : (Jvm.Cond.soleField "SecretBuyersModel" "appealOn") ∈ lw_all := lw_g (lw_at lw_m7 216 rfl) rfl
theorem q1750 : (Jvm.Cond.lays "SecretBuyersModel" "SecretBuyersModel" "seenMany" "I") ∈ lw_all := lw_g (lw_at lw_m7 217 rfl) rfl
theorem q1751 : (Jvm.Cond.soleField "SecretBuyersModel" "seenMany") ∈ lw_all := lw_g (lw_at lw_m7 218 rfl) rfl
theorem q1752 : (Jvm.Cond.laysFinal "SecretBuyersModel" "SecretBuyersModel" "line" "[I") ∈ lw_all := lw_g (lw_at lw_m7 219 rfl) rfl
theorem q1753 : (Jvm.Cond.soleField "SecretBuyersModel" "line") ∈ lw_all := lw_g (lw_at lw_m7 220 rfl) rfl
theorem q1754 : (Jvm.Cond.laysFinal "SecretBuyersModel" "SecretBuyersModel" "score" "[I") ∈ lw_all := lw_g (lw_at lw_m7 221 rfl) rfl
theorem q1755 : (Jvm.Cond.soleField "SecretBuyersModel" "score") ∈ lw_all := lw_g (lw_at lw_m7 222 rfl) rfl
theorem q1756 : (Jvm.Cond.laysFinal "SecretBuyersModel" "SecretBuyersModel" "bonus" "[I") ∈ lw_all := lw_g (lw_at lw_m7 223 rfl) rfl
theorem q1757 : (Jvm.Cond.soleField "SecretBuyersModel" "bonus") ∈ lw_all := lw_g (lw_at lw_m7 224 rfl) rfl
theorem q1758 : (Jvm.Cond.laysFinal "SecretBuyersModel" "SecretBuyersModel" "state" "[I") ∈ lw_all := lw_g (lw_at lw_m7 225 rfl) rfl
theorem q1759 : (Jvm.Cond.soleField "SecretBuyersModel" "state") ∈ lw_all := lw_g (lw_at lw_m7 226 rfl) rfl
theorem q1760 : (Jvm.Cond.lays "SecretBuyersModel" "SecretBuyersModel" "these" "I") ∈ lw_all := lw_g (lw_at lw_m7 227 rfl) rfl
theorem q1761 : (Jvm.Cond.soleField "SecretBuyersModel" "these") ∈ lw_all := lw_g (lw_at lw_m7 228 rfl) rfl
theorem q1762 : (Jvm.Cond.laysFinal "SecretBuyersModel" "SecretBuyersModel" "thisOne" "[I") ∈ lw_all := lw_g (lw_at lw_m7 229 rfl) rfl
theorem q1763 : (Jvm.Cond.soleField "SecretBuyersModel" "thisOne") ∈ lw_all := lw_g (lw_at lw_m7 230 rfl) rfl
theorem q1764 : (Jvm.Cond.laysFinal "SecretBuyersModel" "SecretBuyersModel" "quarrels" "[Z") ∈ lw_all := lw_g (lw_at lw_m7 231 rfl) rfl
theorem q1765 : (Jvm.Cond.soleField "SecretBuyersModel" "quarrels") ∈ lw_all := lw_g (lw_at lw_m7 232 rfl) rfl
theorem q1766 : (Jvm.Cond.lays "SecretBuyersModel" "SecretBuyersModel" "fewest" "I") ∈ lw_all := lw_g (lw_at lw_m7 233 rfl) rfl
theorem q1767 : (Jvm.Cond.soleField "SecretBuyersModel" "fewest") ∈ lw_all := lw_g (lw_at lw_m7 234 rfl) rfl
theorem q1768 : (Jvm.Cond.lays "SecretBuyersModel" "SecretBuyersModel" "firstSet" "I") ∈ lw_all := lw_g (lw_at lw_m7 235 rfl) rfl
theorem q1769 : (Jvm.Cond.soleField "SecretBuyersModel" "firstSet") ∈ lw_all := lw_g (lw_at lw_m7 236 rfl) rfl
theorem q1770 : (Jvm.Cond.lays "SecretBuyersModel" "SecretBuyersModel" "fewestAll" "I") ∈ lw_all := lw_g (lw_at lw_m7 237 rfl) rfl
theorem q1771 : (Jvm.Cond.soleField "SecretBuyersModel" "fewestAll") ∈ lw_all := lw_g (lw_at lw_m7 238 rfl) rfl
theorem q1772 : (Jvm.Cond.laysFinal "SecretBuyersModel" "SecretBuyersModel" "leans" "[I") ∈ lw_all := lw_g (lw_at lw_m7 239 rfl) rfl
theorem q1773 : (Jvm.Cond.soleField "SecretBuyersModel" "leans") ∈ lw_all := lw_g (lw_at lw_m8 0 rfl) rfl
theorem q1774 : (Jvm.Cond.laysFinal "SecretBuyersModel" "SecretBuyersModel" "met" "[I") ∈ lw_all := lw_g (lw_at lw_m8 1 rfl) rfl
theorem q1775 : (Jvm.Cond.soleField "SecretBuyersModel" "met") ∈ lw_all := lw_g (lw_at lw_m8 2 rfl) rfl
theorem q1776 : (Jvm.Cond.laysFinal "SecretBuyersModel" "SecretBuyersModel" "meanOf" "[I") ∈ lw_all := lw_g (lw_at lw_m8 3 rfl) rfl
theorem q1777 : (Jvm.Cond.soleField "SecretBuyersModel" "meanOf") ∈ lw_all := lw_g (lw_at lw_m8 4 rfl) rfl
theorem q1778 : (Jvm.Cond.laysFinal "SecretBuyersModel" "SecretBuyersModel" "countOf" "[I") ∈ lw_all := lw_g (lw_at lw_m8 5 rfl) rfl
theorem q1779 : (Jvm.Cond.soleField "SecretBuyersModel" "countOf") ∈ lw_all := lw_g (lw_at lw_m8 6 rfl) rfl
theorem q1780 : (Jvm.Cond.laysFinal "SecretBuyersModel" "SecretBuyersModel" "rowTo" "[I") ∈ lw_all := lw_g (lw_at lw_m8 7 rfl) rfl
theorem q1781 : (Jvm.Cond.soleField "SecretBuyersModel" "rowTo") ∈ lw_all := lw_g (lw_at lw_m8 8 rfl) rfl
theorem q1782 : (Jvm.Cond.laysFinal "SecretBuyersModel" "SecretBuyersModel" "power" "[I") ∈ lw_all := lw_g (lw_at lw_m8 9 rfl) rfl
theorem q1783 : (Jvm.Cond.soleField "SecretBuyersModel" "power") ∈ lw_all := lw_g (lw_at lw_m8 10 rfl) rfl
theorem q1784 : (Jvm.Cond.laysFinal "SecretBuyersModel" "SecretBuyersModel" "least" "[I") ∈ lw_all := lw_g (lw_at lw_m8 11 rfl) rfl
theorem q1785 : (Jvm.Cond.soleField "SecretBuyersModel" "least") ∈ lw_all := lw_g (lw_at lw_m8 12 rfl) rfl
theorem q1786 : (Jvm.Cond.laysFinal "SecretBuyersModel" "SecretBuyersModel" "givenShop" "[I") ∈ lw_all := lw_g (lw_at lw_m8 13 rfl) rfl
theorem q1787 : (Jvm.Cond.soleField "SecretBuyersModel" "givenShop") ∈ lw_all := lw_g (lw_at lw_m8 14 rfl) rfl
theorem q1788 : (Jvm.Cond.laysFinal "SecretBuyersModel" "SecretBuyersModel" "givenBuyer" "[I") ∈ lw_all := lw_g (lw_at lw_m8 15 rfl) rfl
theorem q1789 : (Jvm.Cond.soleField "SecretBuyersModel" "givenBuyer") ∈ lw_all := lw_g (lw_at lw_m8 16 rfl) rfl
theorem q1790 : (Jvm.Cond.laysFinal "SecretBuyersModel" "SecretBuyersModel" "goes" "[I") ∈ lw_all := lw_g (lw_at lw_m8 17 rfl) rfl
theorem q1791 : (Jvm.Cond.soleField "SecretBuyersModel" "goes") ∈ lw_all := lw_g (lw_at lw_m8 18 rfl) rfl
theorem q1792 : (Jvm.Cond.superclass "SecretBuyersModel" "java/lang/Object") ∈ lw_all := lw_g (lw_at lw_m8 19 rfl) rfl
theorem q1795 : (Jvm.Cond.instanceMethod ({ cls := "SecretBuyersModel", name := "brief", desc := "(II)I" } : Jvm.MethodName)) ∈ lw_all := lw_g (lw_at lw_m8 22 rfl) rfl
theorem q1796 : (Jvm.Cond.selects "SecretBuyersModel" ({ cls := "SecretBuyersModel", name := "brief", desc := "(II)I" } : Jvm.MethodName) ({ cls := "SecretBuyersModel", name := "brief", desc := "(II)I" } : Jvm.MethodName)) ∈ lw_all := lw_g (lw_at lw_m8 23 rfl) rfl
theorem q1797 : (Jvm.Cond.code ({ cls := "SecretBuyersModel", name := "brief", desc := "(II)I" } : Jvm.MethodName) prog_21_method_18_code (3 : Nat) (Option.some Jvm.ClassFile.FieldType.int)) ∈ lw_all := lw_g (lw_at lw_m8 24 rfl) rfl
theorem q1798 : (Jvm.Cond.methodLink "SecretBuyersModel" (282 : Nat) ({ cls := "SecretBuyersModel", name := "cutAll", desc := "()V" } : Jvm.MethodName)) ∈ lw_all := lw_g (lw_at lw_m8 25 rfl) rfl
theorem q1799 : (Jvm.Cond.privateMethod ({ cls := "SecretBuyersModel", name := "cutAll", desc := "()V" } : Jvm.MethodName)) ∈ lw_tbl := lw_at lw_m8 26 rfl
theorem q1800 : (Jvm.Cond.instanceMethod ({ cls := "SecretBuyersModel", name := "cutAll", desc := "()V" } : Jvm.MethodName)) ∈ lw_all := lw_g (lw_at lw_m8 27 rfl) rfl
theorem q1801 : (Jvm.Cond.code ({ cls := "SecretBuyersModel", name := "cutAll", desc := "()V" } : Jvm.MethodName) prog_21_method_9_code (7 : Nat) (Option.none : Option Jvm.ClassFile.FieldType)) ∈ lw_all := lw_g (lw_at lw_m8 28 rfl) rfl
theorem q1802 : (Jvm.Cond.methodLink "SecretBuyersModel" (234 : Nat) ({ cls := "SecretBuyersModel", name := "isLetter", desc := "(I)Z" } : Jvm.MethodName)) ∈ lw_all := lw_g (lw_at lw_m8 29 rfl) rfl
theorem q1803 : (Jvm.Cond.static ({ cls := "SecretBuyersModel", name := "isLetter", desc := "(I)Z" } : Jvm.MethodName)) ∈ lw_all := lw_g (lw_at lw_m8 30 rfl) rfl
theorem q1804 : (Jvm.Cond.code ({ cls := "SecretBuyersModel", name := "isLetter", desc := "(I)Z" } : Jvm.MethodName) prog_21_method_5_code (1 : Nat) (Option.some Jvm.ClassFile.FieldType.boolean)) ∈ lw_all := lw_g (lw_at lw_m8 31 rfl) rfl
theorem q1805 : (Jvm.Cond.constantLong "SecretBuyersModel" (241 : Nat) (37 : Int64)) ∈ lw_all := lw_g (lw_at lw_m8 32 rfl) rfl
theorem q1806 : (Jvm.Cond.methodLink "SecretBuyersModel" (243 : Nat) ({ cls := "SecretBuyersModel", name := "rank", desc := "(I)I" } : Jvm.MethodName)) ∈ lw_all := lw_g (lw_at lw_m8 33 rfl) rfl
theorem q1807 : (Jvm.Cond.static ({ cls := "SecretBuyersModel", name := "rank", desc := "(I)I" } : Jvm.MethodName)) ∈ lw_all := lw_g (lw_at lw_m8 34 rfl) rfl
theorem q1808 : (Jvm.Cond.code ({ cls := "SecretBuyersModel", name := "rank", desc := "(I)I" } : Jvm.MethodName) prog_21_method_7_code (1 : Nat) (Option.some Jvm.ClassFile.FieldType.int)) ∈ lw_all := lw_g (lw_at lw_m8 35 rfl) rfl
theorem q1809 : (Jvm.Cond.methodLink "SecretBuyersModel" (247 : Nat) ({ cls := "SecretBuyersModel", name := "isDigit", desc := "(I)Z" } : Jvm.MethodName)) ∈ lw_all := lw_g (lw_at lw_m8 36 rfl) rfl
theorem q1810 : (Jvm.Cond.static ({ cls := "SecretBuyersModel", name := "isDigit", desc := "(I)Z" } : Jvm.MethodName)) ∈ lw_all := lw_g (lw_at lw_m8 37 rfl) rfl
theorem q1811 : (Jvm.Cond.code ({ cls := "SecretBuyersModel", name := "isDigit", desc := "(I)Z" } : Jvm.MethodName) prog_21_method_6_code (1 : Nat) (Option.some Jvm.ClassFile.FieldType.boolean)) ∈ lw_all := lw_g (lw_at lw_m8 38 rfl) rfl
theorem q1812 : (Jvm.Cond.constantLong "SecretBuyersModel" (250 : Nat) (10 : Int64)) ∈ lw_all := lw_g (lw_at lw_m8 39 rfl) rfl
theorem q1813 : (Jvm.Cond.constantLong "SecretBuyersModel" (252 : Nat) (48 : Int64)) ∈ lw_all := lw_g (lw_at lw_m8 40 rfl) rfl
theorem q1814 : (Jvm.Cond.methodLink "SecretBuyersModel" (254 : Nat) ({ cls := "SecretBuyersModel", name := "isSignOf", desc := "(I)Z" } : Jvm.MethodName)) ∈ lw_all := lw_g (lw_at lw_m8 41 rfl) rfl
theorem q1815 : (Jvm.Cond.static ({ cls := "SecretBuyersModel", name := "isSignOf", desc := "(I)Z" } : Jvm.MethodName)) ∈ lw_all := lw_g (lw_at lw_m8 42 rfl) rfl
theorem q1816 : (Jvm.Cond.code ({ cls := "SecretBuyersModel", name := "isSignOf", desc := "(I)Z" } : Jvm.MethodName) prog_21_method_8_code (1 : Nat) (Option.some Jvm.ClassFile.FieldType.boolean)) ∈ lw_all := lw_g (lw_at lw_m8 43 rfl) rfl
theorem q1817 : (Jvm.Cond.methodLink "SecretBuyersModel" (288 : Nat) ({ cls := "SecretBuyersModel", name := "readLine", desc := "()V" } : Jvm.MethodName)) ∈ lw_all := lw_g (lw_at lw_m8 44 rfl) rfl
theorem q1818 : (Jvm.Cond.privateMethod ({ cls := "SecretBuyersModel", name := "readLine", desc := "()V" } : Jvm.MethodName)) ∈ lw_tbl := lw_at lw_m8 45 rfl
theorem q1819 : (Jvm.Cond.instanceMethod ({ cls := "SecretBuyersModel", name := "readLine", desc := "()V" } : Jvm.MethodName)) ∈ lw_all := lw_g (lw_at lw_m8 46 rfl) rfl
theorem q1820 : (Jvm.Cond.code ({ cls := "SecretBuyersModel", name := "readLine", desc := "()V" } : Jvm.MethodName) prog_21_method_23_code (2 : Nat) (Option.none : Option Jvm.ClassFile.FieldType)) ∈ lw_all := lw_g (lw_at lw_m8 47 rfl) rfl
theorem q1821 : (Jvm.Cond.methodLink "SecretBuyersModel" (270 : Nat) ({ cls := "SecretBuyersModel", name := "isWord", desc := "(I)Z" } : Jvm.MethodName)) ∈ lw_all := lw_g (lw_at lw_m8 48 rfl) rfl
theorem q1822 : (Jvm.Cond.privateMethod ({ cls := "SecretBuyersModel", name := "isWord", desc := "(I)Z" } : Jvm.MethodName)) ∈ lw_tbl := lw_at lw_m8 49 rfl
theorem q1823 : (Jvm.Cond.instanceMethod ({ cls := "SecretBuyersModel", name := "isWord", desc := "(I)Z" } : Jvm.MethodName)) ∈ lw_all := lw_g (lw_at lw_m8 50 rfl) rfl
theorem q1824 : (Jvm.Cond.code ({ cls := "SecretBuyersModel", name := "isWord", desc := "(I)Z" } : Jvm.MethodName) prog_21_method_12_code (2 : Nat) (Option.some Jvm.ClassFile.FieldType.boolean)) ∈ lw_all := lw_g (lw_at lw_m8 51 rfl) rfl
theorem q1825 : (Jvm.Cond.methodLink "SecretBuyersModel" (266 : Nat) ({ cls := "SecretBuyersModel", name := "wrong", desc := "(I)V" } : Jvm.MethodName)) ∈ lw_all := lw_g (lw_at lw_m8 52 rfl) rfl
theorem q1826 : (Jvm.Cond.privateMethod ({ cls := "SecretBuyersModel", name := "wrong", desc := "(I)V" } : Jvm.MethodName)) ∈ lw_tbl := lw_at lw_m8 53 rfl
theorem q1827 : (Jvm.Cond.instanceMethod ({ cls := "SecretBuyersModel", name := "wrong", desc := "(I)V" } : Jvm.MethodName)) ∈ lw_all := lw_g (lw_at lw_m8 54 rfl) rfl
theorem q1828 : (Jvm.Cond.code ({ cls := "SecretBuyersModel", name := "wrong", desc := "(I)V" } : Jvm.MethodName) prog_21_method_10_code (2 : Nat) (Option.none : Option Jvm.ClassFile.FieldType)) ∈ lw_all := lw_g (lw_at lw_m8 55 rfl) rfl
theorem q1829 : (Jvm.Cond.methodLink "SecretBuyersModel" (298 : Nat) ({ cls := "SecretBuyersModel", name := "readLet", desc := "(I)V" } : Jvm.MethodName)) ∈ lw_all := lw_g (lw_at lw_m8 56 rfl) rfl
theorem q1830 : (Jvm.Cond.privateMethod ({ cls := "SecretBuyersModel", name := "readLet", desc := "(I)V" } : Jvm.MethodName)) ∈ lw_tbl := lw_at lw_m8 57 rfl
theorem q1831 : (Jvm.Cond.instanceMethod ({ cls := "SecretBuyersModel", name := "readLet", desc := "(I)V" } : Jvm.MethodName)) ∈ lw_all := lw_g (lw_at lw_m8 58 rfl) rfl
theorem q1832 : (Jvm.Cond.code ({ cls := "SecretBuyersModel", name := "readLet", desc := "(I)V" } : Jvm.MethodName) prog_21_method_24_code (4 : Nat) (Option.none : Option Jvm.ClassFile.FieldType)) ∈ lw_all := lw_g (lw_at lw_m8 59 rfl) rfl
theorem q1833 : (Jvm.Cond.methodLink "SecretBuyersModel" (314 : Nat) ({ cls := "SecretBuyersModel", name := "isName", desc := "()Z" } : Jvm.MethodName)) ∈ lw_all := lw_g (lw_at lw_m8 60 rfl) rfl
theorem q1834 : (Jvm.Cond.privateMethod ({ cls := "SecretBuyersModel", name := "isName", desc := "()Z" } : Jvm.MethodName)) ∈ lw_tbl := lw_at lw_m8 61 rfl
theorem q1835 : (Jvm.Cond.instanceMethod ({ cls := "SecretBuyersModel", name := "isName", desc := "()Z" } : Jvm.MethodName)) ∈ lw_all := lw_g (lw_at lw_m8 62 rfl) rfl
theorem q1836 : (Jvm.Cond.code ({ cls := "SecretBuyersModel", name := "isName", desc := "()Z" } : Jvm.MethodName) prog_21_method_21_code (3 : Nat) (Option.some Jvm.ClassFile.FieldType.boolean)) ∈ lw_all := lw_g (lw_at lw_m8 63 rfl) rfl
theorem q1837 : (Jvm.Cond.methodLink "SecretBuyersModel" (318 : Nat) ({ cls := "SecretBuyersModel", name := "findName", desc := "()I" } : Jvm.MethodName)) ∈ lw_all := lw_g (lw_at lw_m8 64 rfl) rfl
theorem q1838 : (Jvm.Cond.privateMethod ({ cls := "SecretBuyersModel", name := "findName", desc := "()I" } : Jvm.MethodName)) ∈ lw_tbl := lw_at lw_m8 65 rfl
theorem q1839 : (Jvm.Cond.instanceMethod ({ cls := "SecretBuyersModel", name := "findName", desc := "()I" } : Jvm.MethodName)) ∈ lw_all := lw_g (lw_at lw_m8 66 rfl) rfl
theorem q1840 : (Jvm.Cond.code ({ cls := "SecretBuyersModel", name := "findName", desc := "()I" } : Jvm.MethodName) prog_21_method_22_code (3 : Nat) (Option.some Jvm.ClassFile.FieldType.int)) ∈ lw_all := lw_g (lw_at lw_m8 67 rfl) rfl
theorem q1841 : (Jvm.Cond.methodLink "SecretBuyersModel" (311 : Nat) ({ cls := "SecretBuyersModel", name := "takeSign", desc := "(I)V" } : Jvm.MethodName)) ∈ lw_all := lw_g (lw_at lw_m8 68 rfl) rfl
theorem q1842 : (Jvm.Cond.privateMethod ({ cls := "SecretBuyersModel", name := "takeSign", desc := "(I)V" } : Jvm.MethodName)) ∈ lw_tbl := lw_at lw_m8 69 rfl
theorem q1843 : (Jvm.Cond.instanceMethod ({ cls := "SecretBuyersModel", name := "takeSign", desc := "(I)V" } : Jvm.MethodName)) ∈ lw_all := lw_g (lw_at lw_m8 70 rfl) rfl
theorem q1844 : (Jvm.Cond.code ({ cls := "SecretBuyersModel", name := "takeSign", desc := "(I)V" } : Jvm.MethodName) prog_21_method_13_code (2 : Nat) (Option.none : Option Jvm.ClassFile.FieldType)) ∈ lw_all := lw_g (lw_at lw_m8 71 rfl) rfl
theorem q1845 : (Jvm.Cond.methodLink "SecretBuyersModel" (263 : Nat) ({ cls := "SecretBuyersModel", name := "isSign", desc := "(I)Z" } : Jvm.MethodName)) ∈ lw_all := lw_g (lw_at lw_m8 72 rfl) rfl
theorem q1846 : (Jvm.Cond.privateMethod ({ cls := "SecretBuyersModel", name := "isSign", desc := "(I)Z" } : Jvm.MethodName)) ∈ lw_tbl := lw_at lw_m8 73 rfl
theorem q1847 : (Jvm.Cond.instanceMethod ({ cls := "SecretBuyersModel", name := "isSign", desc := "(I)Z" } : Jvm.MethodName)) ∈ lw_all := lw_g (lw_at lw_m8 74 rfl) rfl
theorem q1848 : (Jvm.Cond.code ({ cls := "SecretBuyersModel", name := "isSign", desc := "(I)Z" } : Jvm.MethodName) prog_21_method_11_code (2 : Nat) (Option.some Jvm.ClassFile.FieldType.boolean)) ∈ lw_all := lw_g (lw_at lw_m8 75 rfl) rfl
theorem q1849 : (Jvm.Cond.methodLink "SecretBuyersModel" (304 : Nat) ({ cls := "SecretBuyersModel", name := "readTests", desc := "()I" } : Jvm.MethodName)) ∈ lw_all := lw_g (lw_at lw_m8 76 rfl) rfl
theorem q1850 : (Jvm.Cond.privateMethod ({ cls := "SecretBuyersModel", name := "readTests", desc := "()I" } : Jvm.MethodName)) ∈ lw_tbl := lw_at lw_m8 77 rfl
theorem q1851 : (Jvm.Cond.instanceMethod ({ cls := "SecretBuyersModel", name := "readTests", desc := "()I" } : Jvm.MethodName)) ∈ lw_all := lw_g (lw_at lw_m8 78 rfl) rfl
theorem q1852 : (Jvm.Cond.code ({ cls := "SecretBuyersModel", name := "readTests", desc := "()I" } : Jvm.MethodName) prog_21_method_25_code (2 : Nat) (Option.some Jvm.ClassFile.FieldType.int)) ∈ lw_all := lw_g (lw_at lw_m8 79 rfl) rfl
theorem q1853 : (Jvm.Cond.methodLink "SecretBuyersModel" (321 : Nat) ({ cls := "SecretBuyersModel", name := "all", desc := "(I)V" } : Jvm.MethodName)) ∈ lw_all := lw_g (lw_at lw_m8 80 rfl) rfl
theorem q1854 : (Jvm.Cond.privateMethod ({ cls := "SecretBuyersModel", name := "all", desc := "(I)V" } : Jvm.MethodName)) ∈ lw_tbl := lw_at lw_m8 81 rfl
theorem q1855 : (Jvm.Cond.instanceMethod ({ cls := "SecretBuyersModel", name := "all", desc := "(I)V" } : Jvm.MethodName)) ∈ lw_all := lw_g (lw_at lw_m8 82 rfl) rfl
theorem q1856 : (Jvm.Cond.code ({ cls := "SecretBuyersModel", name := "all", desc := "(I)V" } : Jvm.MethodName) prog_21_method_26_code (3 : Nat) (Option.none : Option Jvm.ClassFile.FieldType)) ∈ lw_all := lw_g (lw_at lw_m8 83 rfl) rfl
theorem q1857 : (Jvm.Cond.methodLink "SecretBuyersModel" (327 : Nat) ({ cls := "SecretBuyersModel", name := "test", desc := "(I)V" } : Jvm.MethodName)) ∈ lw_all := lw_g (lw_at lw_m8 84 rfl) rfl
theorem q1858 : (Jvm.Cond.privateMethod ({ cls := "SecretBuyersModel", name := "test", desc := "(I)V" } : Jvm.MethodName)) ∈ lw_tbl := lw_at lw_m8 85 rfl
theorem q1859 : (Jvm.Cond.instanceMethod ({ cls := "SecretBuyersModel", name := "test", desc := "(I)V" } : Jvm.MethodName)) ∈ lw_all := lw_g (lw_at lw_m8 86 rfl) rfl
theorem q1860 : (Jvm.Cond.code ({ cls := "SecretBuyersModel", name := "test", desc := "(I)V" } : Jvm.MethodName) prog_21_method_27_code (3 : Nat) (Option.none : Option Jvm.ClassFile.FieldType)) ∈ lw_all := lw_g (lw_at lw_m8 87 rfl) rfl
theorem q1861 : (Jvm.Cond.methodLink "SecretBuyersModel" (330 : Nat) ({ cls := "SecretBuyersModel", name := "sums", desc := "(I)V" } : Jvm.MethodName)) ∈ lw_all := lw_g (lw_at lw_m8 88 rfl) rfl
theorem q1862 : (Jvm.Cond.privateMethod ({ cls := "SecretBuyersModel", name := "sums", desc := "(I)V" } : Jvm.MethodName)) ∈ lw_tbl := lw_at lw_m8 89 rfl
theorem q1863 : (Jvm.Cond.instanceMethod ({ cls := "SecretBuyersModel", name := "sums", desc := "(I)V" } : Jvm.MethodName)) ∈ lw_all := lw_g (lw_at lw_m8 90 rfl) rfl
theorem q1864 : (Jvm.Cond.code ({ cls := "SecretBuyersModel", name := "sums", desc := "(I)V" } : Jvm.MethodName) prog_21_method_28_code (3 : Nat) (Option.none : Option Jvm.ClassFile.FieldType)) ∈ lw_all := lw_g (lw_at lw_m8 91 rfl) rfl
theorem q1865 : (Jvm.Cond.methodLink "SecretBuyersModel" (336 : Nat) ({ cls := "SecretBuyersModel", name := "products", desc := "(I)V" } : Jvm.MethodName)) ∈ lw_all := lw_g (lw_at lw_m8 92 rfl) rfl
theorem q1866 : (Jvm.Cond.privateMethod ({ cls := "SecretBuyersModel", name := "products", desc := "(I)V" } : Jvm.MethodName)) ∈ lw_tbl := lw_at lw_m8 93 rfl
theorem q1867 : (Jvm.Cond.instanceMethod ({ cls := "SecretBuyersModel", name := "products", desc := "(I)V" } : Jvm.MethodName)) ∈ lw_all := lw_g (lw_at lw_m8 94 rfl) rfl
theorem q1868 : (Jvm.Cond.code ({ cls := "SecretBuyersModel", name := "products", desc := "(I)V" } : Jvm.MethodName) prog_21_method_29_code (2 : Nat) (Option.none : Option Jvm.ClassFile.FieldType)) ∈ lw_all := lw_g (lw_at lw_m8 95 rfl) rfl
theorem q1869 : (Jvm.Cond.methodLink "SecretBuyersModel" (339 : Nat) ({ cls := "SecretBuyersModel", name := "takePart", desc := "(I)V" } : Jvm.MethodName)) ∈ lw_all := lw_g (lw_at lw_m8 96 rfl) rfl
theorem q1870 : (Jvm.Cond.privateMethod ({ cls := "SecretBuyersModel", name := "takePart", desc := "(I)V" } : Jvm.MethodName)) ∈ lw_tbl := lw_at lw_m8 97 rfl
theorem q1871 : (Jvm.Cond.instanceMethod ({ cls := "SecretBuyersModel", name := "takePart", desc := "(I)V" } : Jvm.MethodName)) ∈ lw_all := lw_g (lw_at lw_m8 98 rfl) rfl
theorem q1872 : (Jvm.Cond.code ({ cls := "SecretBuyersModel", name := "takePart", desc := "(I)V" } : Jvm.MethodName) prog_21_method_30_code (6 : Nat) (Option.none : Option Jvm.ClassFile.FieldType)) ∈ lw_all := lw_g (lw_at lw_m8 99 rfl) rfl
theorem q1873 : (Jvm.Cond.methodLink "SecretBuyersModel" (273 : Nat) ({ cls := "SecretBuyersModel", name := "hasWord", desc := "(I)Z" } : Jvm.MethodName)) ∈ lw_all := lw_g (lw_at lw_m8 100 rfl) rfl
theorem q1874 : (Jvm.Cond.privateMethod ({ cls := "SecretBuyersModel", name := "hasWord", desc := "(I)Z" } : Jvm.MethodName)) ∈ lw_tbl := lw_at lw_m8 101 rfl
theorem q1875 : (Jvm.Cond.instanceMethod ({ cls := "SecretBuyersModel", name := "hasWord", desc := "(I)Z" } : Jvm.MethodName)) ∈ lw_all := lw_g (lw_at lw_m8 102 rfl) rfl
theorem q1876 : (Jvm.Cond.code ({ cls := "SecretBuyersModel", name := "hasWord", desc := "(I)Z" } : Jvm.MethodName) prog_21_method_15_code (3 : Nat) (Option.some Jvm.ClassFile.FieldType.boolean)) ∈ lw_all := lw_g (lw_at lw_m8 103 rfl) rfl
theorem q1877 : (Jvm.Cond.methodLink "SecretBuyersModel" (324 : Nat) ({ cls := "SecretBuyersModel", name := "emit", desc := "(II)V" } : Jvm.MethodName)) ∈ lw_all := lw_g (lw_at lw_m8 104 rfl) rfl
theorem q1878 : (Jvm.Cond.privateMethod ({ cls := "SecretBuyersModel", name := "emit", desc := "(II)V" } : Jvm.MethodName)) ∈ lw_tbl := lw_at lw_m8 105 rfl
theorem q1879 : (Jvm.Cond.instanceMethod ({ cls := "SecretBuyersModel", name := "emit", desc := "(II)V" } : Jvm.MethodName)) ∈ lw_all := lw_g (lw_at lw_m8 106 rfl) rfl
theorem q1880 : (Jvm.Cond.code ({ cls := "SecretBuyersModel", name := "emit", desc := "(II)V" } : Jvm.MethodName) prog_21_method_17_code (3 : Nat) (Option.none : Option Jvm.ClassFile.FieldType)) ∈ lw_all := lw_g (lw_at lw_m8 107 rfl) rfl
theorem q1881 : (Jvm.Cond.methodLink "SecretBuyersModel" (301 : Nat) ({ cls := "SecretBuyersModel", name := "takeNumber", desc := "(I)I" } : Jvm.MethodName)) ∈ lw_all := lw_g (lw_at lw_m8 108 rfl) rfl
theorem q1882 : (Jvm.Cond.privateMethod ({ cls := "SecretBuyersModel", name := "takeNumber", desc := "(I)I" } : Jvm.MethodName)) ∈ lw_tbl := lw_at lw_m8 109 rfl
theorem q1883 : (Jvm.Cond.instanceMethod ({ cls := "SecretBuyersModel", name := "takeNumber", desc := "(I)I" } : Jvm.MethodName)) ∈ lw_all := lw_g (lw_at lw_m8 110 rfl) rfl
theorem q1884 : (Jvm.Cond.code ({ cls := "SecretBuyersModel", name := "takeNumber", desc := "(I)I" } : Jvm.MethodName) prog_21_method_20_code (2 : Nat) (Option.some Jvm.ClassFile.FieldType.int)) ∈ lw_all := lw_g (lw_at lw_m8 111 rfl) rfl
theorem q1885 : (Jvm.Cond.methodLink "SecretBuyersModel" (333 : Nat) ({ cls := "SecretBuyersModel", name := "hasSign", desc := "(I)Z" } : Jvm.MethodName)) ∈ lw_all := lw_g (lw_at lw_m8 112 rfl) rfl
theorem q1886 : (Jvm.Cond.privateMethod ({ cls := "SecretBuyersModel", name := "hasSign", desc := "(I)Z" } : Jvm.MethodName)) ∈ lw_tbl := lw_at lw_m8 113 rfl
theorem q1887 : (Jvm.Cond.instanceMethod ({ cls := "SecretBuyersModel", name := "hasSign", desc := "(I)Z" } : Jvm.MethodName)) ∈ lw_all := lw_g (lw_at lw_m8 114 rfl) rfl
theorem q1888 : (Jvm.Cond.code ({ cls := "SecretBuyersModel", name := "hasSign", desc := "(I)Z" } : Jvm.MethodName) prog_21_method_14_code (3 : Nat) (Option.some Jvm.ClassFile.FieldType.boolean)) ∈ lw_all := lw_g (lw_at lw_m8 115 rfl) rfl
theorem q1889 : (Jvm.Cond.methodLink "SecretBuyersModel" (308 : Nat) ({ cls := "SecretBuyersModel", name := "takeWord", desc := "(I)V" } : Jvm.MethodName)) ∈ lw_all := lw_g (lw_at lw_m8 116 rfl) rfl
theorem q1890 : (Jvm.Cond.privateMethod ({ cls := "SecretBuyersModel", name := "takeWord", desc := "(I)V" } : Jvm.MethodName)) ∈ lw_tbl := lw_at lw_m8 117 rfl
theorem q1891 : (Jvm.Cond.instanceMethod ({ cls := "SecretBuyersModel", name := "takeWord", desc := "(I)V" } : Jvm.MethodName)) ∈ lw_all := lw_g (lw_at lw_m8 118 rfl) rfl
theorem q1892 : (Jvm.Cond.code ({ cls := "SecretBuyersModel", name := "takeWord", desc := "(I)V" } : Jvm.MethodName) prog_21_method_16_code (2 : Nat) (Option.none : Option Jvm.ClassFile.FieldType)) ∈ lw_all := lw_g (lw_at lw_m8 119 rfl) rfl
theorem q1893 : (Jvm.Cond.methodLink "SecretBuyersModel" (291 : Nat) ({ cls := "SecretBuyersModel", name := "keeps", desc := "(II)V" } : Jvm.MethodName)) ∈ lw_all := lw_g (lw_at lw_m8 120 rfl) rfl
theorem q1894 : (Jvm.Cond.privateMethod ({ cls := "SecretBuyersModel", name := "keeps", desc := "(II)V" } : Jvm.MethodName)) ∈ lw_tbl := lw_at lw_m8 121 rfl
theorem q1895 : (Jvm.Cond.instanceMethod ({ cls := "SecretBuyersModel", name := "keeps", desc := "(II)V" } : Jvm.MethodName)) ∈ lw_all := lw_g (lw_at lw_m8 122 rfl) rfl
theorem q1896 : (Jvm.Cond.code ({ cls := "SecretBuyersModel", name := "keeps", desc := "(II)V" } : Jvm.MethodName) prog_21_method_19_code (5 : Nat) (Option.none : Option Jvm.ClassFile.FieldType)) ∈ lw_all := lw_g (lw_at lw_m8 123 rfl) rfl
theorem q1898 : (Jvm.Cond.instanceMethod ({ cls := "SecretBuyersModel", name := "days", desc := "(I)I" } : Jvm.MethodName)) ∈ lw_all := lw_g (lw_at lw_m8 125 rfl) rfl
theorem q1899 : (Jvm.Cond.selects "SecretBuyersModel" ({ cls := "SecretBuyersModel", name := "days", desc := "(I)I" } : Jvm.MethodName) ({ cls := "SecretBuyersModel", name := "days", desc := "(I)I" } : Jvm.MethodName)) ∈ lw_all := lw_g (lw_at lw_m8 126 rfl) rfl
theorem q1900 : (Jvm.Cond.code ({ cls := "SecretBuyersModel", name := "days", desc := "(I)I" } : Jvm.MethodName) prog_21_method_37_code (2 : Nat) (Option.some Jvm.ClassFile.FieldType.int)) ∈ lw_all := lw_g (lw_at lw_m8 127 rfl) rfl
theorem q1901 : (Jvm.Cond.methodLink "SecretBuyersModel" (358 : Nat) ({ cls := "SecretBuyersModel", name := "within", desc := "(III)Z" } : Jvm.MethodName)) ∈ lw_all := lw_g (lw_at lw_m8 128 rfl) rfl
theorem q1902 : (Jvm.Cond.static ({ cls := "SecretBuyersModel", name := "within", desc := "(III)Z" } : Jvm.MethodName)) ∈ lw_all := lw_g (lw_at lw_m8 129 rfl) rfl
theorem q1903 : (Jvm.Cond.code ({ cls := "SecretBuyersModel", name := "within", desc := "(III)Z" } : Jvm.MethodName) prog_21_method_34_code (3 : Nat) (Option.some Jvm.ClassFile.FieldType.boolean)) ∈ lw_all := lw_g (lw_at lw_m8 130 rfl) rfl
theorem q1905 : (Jvm.Cond.instanceMethod ({ cls := "SecretBuyersModel", name := "view", desc := "(I)Z" } : Jvm.MethodName)) ∈ lw_all := lw_g (lw_at lw_m8 132 rfl) rfl
theorem q1906 : (Jvm.Cond.selects "SecretBuyersModel" ({ cls := "SecretBuyersModel", name := "view", desc := "(I)Z" } : Jvm.MethodName) ({ cls := "SecretBuyersModel", name := "view", desc := "(I)Z" } : Jvm.MethodName)) ∈ lw_all := lw_g (lw_at lw_m8 133 rfl) rfl
theorem q1907 : (Jvm.Cond.code ({ cls := "SecretBuyersModel", name := "view", desc := "(I)Z" } : Jvm.MethodName) prog_21_method_38_code (2 : Nat) (Option.some Jvm.ClassFile.FieldType.boolean)) ∈ lw_all := lw_g (lw_at lw_m8 134 rfl) rfl
theorem q1909 : (Jvm.Cond.instanceMethod ({ cls := "SecretBuyersModel", name := "shop", desc := "(IIIIIZ)I" } : Jvm.MethodName)) ∈ lw_all := lw_g (lw_at lw_m8 136 rfl) rfl
theorem q1910 : (Jvm.Cond.selects "SecretBuyersModel" ({ cls := "SecretBuyersModel", name := "shop", desc := "(IIIIIZ)I" } : Jvm.MethodName) ({ cls := "SecretBuyersModel", name := "shop", desc := "(IIIIIZ)I" } : Jvm.MethodName)) ∈ lw_all := lw_g (lw_at lw_m8 137 rfl) rfl
theorem q1911 : (Jvm.Cond.code ({ cls := "SecretBuyersModel", name := "shop", desc := "(IIIIIZ)I" } : Jvm.MethodName) prog_21_method_40_code (7 : Nat) (Option.some Jvm.ClassFile.FieldType.int)) ∈ lw_all := lw_g (lw_at lw_m8 138 rfl) rfl
theorem q1912 : (Jvm.Cond.methodLink "SecretBuyersModel" (362 : Nat) ({ cls := "SecretBuyersModel", name := "isPlace", desc := "(II)Z" } : Jvm.MethodName)) ∈ lw_all := lw_g (lw_at lw_m8 139 rfl) rfl
theorem q1913 : (Jvm.Cond.static ({ cls := "SecretBuyersModel", name := "isPlace", desc := "(II)Z" } : Jvm.MethodName)) ∈ lw_all := lw_g (lw_at lw_m8 140 rfl) rfl
theorem q1914 : (Jvm.Cond.code ({ cls := "SecretBuyersModel", name := "isPlace", desc := "(II)Z" } : Jvm.MethodName) prog_21_method_35_code (2 : Nat) (Option.some Jvm.ClassFile.FieldType.boolean)) ∈ lw_all := lw_g (lw_at lw_m8 141 rfl) rfl
theorem q1916 : (Jvm.Cond.instanceMethod ({ cls := "SecretBuyersModel", name := "buyer", desc := "(II)I" } : Jvm.MethodName)) ∈ lw_all := lw_g (lw_at lw_m8 143 rfl) rfl
theorem q1917 : (Jvm.Cond.selects "SecretBuyersModel" ({ cls := "SecretBuyersModel", name := "buyer", desc := "(II)I" } : Jvm.MethodName) ({ cls := "SecretBuyersModel", name := "buyer", desc := "(II)I" } : Jvm.MethodName)) ∈ lw_all := lw_g (lw_at lw_m8 144 rfl) rfl
theorem q1918 : (Jvm.Cond.code ({ cls := "SecretBuyersModel", name := "buyer", desc := "(II)I" } : Jvm.MethodName) prog_21_method_41_code (3 : Nat) (Option.some Jvm.ClassFile.FieldType.int)) ∈ lw_all := lw_g (lw_at lw_m8 145 rfl) rfl
theorem q1920 : (Jvm.Cond.instanceMethod ({ cls := "SecretBuyersModel", name := "terms", desc := "(III)Z" } : Jvm.MethodName)) ∈ lw_all := lw_g (lw_at lw_m8 147 rfl) rfl
theorem q1921 : (Jvm.Cond.selects "SecretBuyersModel" ({ cls := "SecretBuyersModel", name := "terms", desc := "(III)Z" } : Jvm.MethodName) ({ cls := "SecretBuyersModel", name := "terms", desc := "(III)Z" } : Jvm.MethodName)) ∈ lw_all := lw_g (lw_at lw_m8 148 rfl) rfl
theorem q1922 : (Jvm.Cond.code ({ cls := "SecretBuyersModel", name := "terms", desc := "(III)Z" } : Jvm.MethodName) prog_21_method_42_code (4 : Nat) (Option.some Jvm.ClassFile.FieldType.boolean)) ∈ lw_all := lw_g (lw_at lw_m8 149 rfl) rfl
theorem q1924 : (Jvm.Cond.instanceMethod ({ cls := "SecretBuyersModel", name := "rest", desc := "(II)Z" } : Jvm.MethodName)) ∈ lw_all := lw_g (lw_at lw_m8 151 rfl) rfl
theorem q1925 : (Jvm.Cond.selects "SecretBuyersModel" ({ cls := "SecretBuyersModel", name := "rest", desc := "(II)Z" } : Jvm.MethodName) ({ cls := "SecretBuyersModel", name := "rest", desc := "(II)Z" } : Jvm.MethodName)) ∈ lw_all := lw_g (lw_at lw_m8 152 rfl) rfl
theorem q1926 : (Jvm.Cond.code ({ cls := "SecretBuyersModel", name := "rest", desc := "(II)Z" } : Jvm.MethodName) prog_21_method_43_code (3 : Nat) (Option.some Jvm.ClassFile.FieldType.boolean)) ∈ lw_all := lw_g (lw_at lw_m8 153 rfl) rfl
theorem q1928 : (Jvm.Cond.instanceMethod ({ cls := "SecretBuyersModel", name := "visit", desc := "(IIIIIII)I" } : Jvm.MethodName)) ∈ lw_all := lw_g (lw_at lw_m8 155 rfl) rfl
theorem q1929 : (Jvm.Cond.selects "SecretBuyersModel" ({ cls := "SecretBuyersModel", name := "visit", desc := "(IIIIIII)I" } : Jvm.MethodName) ({ cls := "SecretBuyersModel", name := "visit", desc := "(IIIIIII)I" } : Jvm.MethodName)) ∈ lw_all := lw_g (lw_at lw_m8 156 rfl) rfl
theorem q1930 : (Jvm.Cond.code ({ cls := "SecretBuyersModel", name := "visit", desc := "(IIIIIII)I" } : Jvm.MethodName) prog_21_method_47_code (9 : Nat) (Option.some Jvm.ClassFile.FieldType.int)) ∈ lw_all := lw_g (lw_at lw_m8 157 rfl) rfl
theorem q1931 : (Jvm.Cond.methodLink "SecretBuyersModel" (375 : Nat) ({ cls := "SecretBuyersModel", name := "isShop", desc := "(I)Z" } : Jvm.MethodName)) ∈ lw_all := lw_g (lw_at lw_m8 158 rfl) rfl
theorem q1932 : (Jvm.Cond.privateMethod ({ cls := "SecretBuyersModel", name := "isShop", desc := "(I)Z" } : Jvm.MethodName)) ∈ lw_tbl := lw_at lw_m8 159 rfl
theorem q1933 : (Jvm.Cond.instanceMethod ({ cls := "SecretBuyersModel", name := "isShop", desc := "(I)Z" } : Jvm.MethodName)) ∈ lw_all := lw_g (lw_at lw_m8 160 rfl) rfl
theorem q1934 : (Jvm.Cond.code ({ cls := "SecretBuyersModel", name := "isShop", desc := "(I)Z" } : Jvm.MethodName) prog_21_method_44_code (2 : Nat) (Option.some Jvm.ClassFile.FieldType.boolean)) ∈ lw_all := lw_g (lw_at lw_m8 161 rfl) rfl
theorem q1935 : (Jvm.Cond.methodLink "SecretBuyersModel" (378 : Nat) ({ cls := "SecretBuyersModel", name := "isBuyer", desc := "(I)Z" } : Jvm.MethodName)) ∈ lw_all := lw_g (lw_at lw_m8 162 rfl) rfl
theorem q1936 : (Jvm.Cond.privateMethod ({ cls := "SecretBuyersModel", name := "isBuyer", desc := "(I)Z" } : Jvm.MethodName)) ∈ lw_tbl := lw_at lw_m8 163 rfl
theorem q1937 : (Jvm.Cond.instanceMethod ({ cls := "SecretBuyersModel", name := "isBuyer", desc := "(I)Z" } : Jvm.MethodName)) ∈ lw_all := lw_g (lw_at lw_m8 164 rfl) rfl
theorem q1938 : (Jvm.Cond.code ({ cls := "SecretBuyersModel", name := "isBuyer", desc := "(I)Z" } : Jvm.MethodName) prog_21_method_45_code (2 : Nat) (Option.some Jvm.ClassFile.FieldType.boolean)) ∈ lw_all := lw_g (lw_at lw_m8 165 rfl) rfl
theorem q1939 : (Jvm.Cond.methodLink "SecretBuyersModel" (381 : Nat) ({ cls := "SecretBuyersModel", name := "visitsOf", desc := "(II)I" } : Jvm.MethodName)) ∈ lw_all := lw_g (lw_at lw_m8 166 rfl) rfl
theorem q1940 : (Jvm.Cond.privateMethod ({ cls := "SecretBuyersModel", name := "visitsOf", desc := "(II)I" } : Jvm.MethodName)) ∈ lw_tbl := lw_at lw_m8 167 rfl
theorem q1941 : (Jvm.Cond.instanceMethod ({ cls := "SecretBuyersModel", name := "visitsOf", desc := "(II)I" } : Jvm.MethodName)) ∈ lw_all := lw_g (lw_at lw_m8 168 rfl) rfl
theorem q1942 : (Jvm.Cond.code ({ cls := "SecretBuyersModel", name := "visitsOf", desc := "(II)I" } : Jvm.MethodName) prog_21_method_46_code (5 : Nat) (Option.some Jvm.ClassFile.FieldType.int)) ∈ lw_all := lw_g (lw_at lw_m8 169 rfl) rfl
theorem q1944 : (Jvm.Cond.instanceMethod ({ cls := "SecretBuyersModel", name := "appeal", desc := "(II)Z" } : Jvm.MethodName)) ∈ lw_all := lw_g (lw_at lw_m8 171 rfl) rfl
theorem q1945 : (Jvm.Cond.selects "SecretBuyersModel" ({ cls := "SecretBuyersModel", name := "appeal", desc := "(II)Z" } : Jvm.MethodName) ({ cls := "SecretBuyersModel", name := "appeal", desc := "(II)Z" } : Jvm.MethodName)) ∈ lw_all := lw_g (lw_at lw_m8 172 rfl) rfl
theorem q1946 : (Jvm.Cond.code ({ cls := "SecretBuyersModel", name := "appeal", desc := "(II)Z" } : Jvm.MethodName) prog_21_method_48_code (3 : Nat) (Option.some Jvm.ClassFile.FieldType.boolean)) ∈ lw_all := lw_g (lw_at lw_m8 173 rfl) rfl
theorem q1948 : (Jvm.Cond.instanceMethod ({ cls := "SecretBuyersModel", name := "look", desc := "(II)I" } : Jvm.MethodName)) ∈ lw_all := lw_g (lw_at lw_m8 175 rfl) rfl
theorem q1949 : (Jvm.Cond.selects "SecretBuyersModel" ({ cls := "SecretBuyersModel", name := "look", desc := "(II)I" } : Jvm.MethodName) ({ cls := "SecretBuyersModel", name := "look", desc := "(II)I" } : Jvm.MethodName)) ∈ lw_all := lw_g (lw_at lw_m8 176 rfl) rfl
theorem q1950 : (Jvm.Cond.code ({ cls := "SecretBuyersModel", name := "look", desc := "(II)I" } : Jvm.MethodName) prog_21_method_64_code (3 : Nat) (Option.some Jvm.ClassFile.FieldType.int)) ∈ lw_all := lw_g (lw_at lw_m8 177 rfl) rfl
theorem q1951 : (Jvm.Cond.methodLink "SecretBuyersModel" (394 : Nat) ({ cls := "SecretBuyersModel", name := "isSeen", desc := "(I)Z" } : Jvm.MethodName)) ∈ lw_all := lw_g (lw_at lw_m8 178 rfl) rfl
theorem q1952 : (Jvm.Cond.privateMethod ({ cls := "SecretBuyersModel", name := "isSeen", desc := "(I)Z" } : Jvm.MethodName)) ∈ lw_tbl := lw_at lw_m8 179 rfl
theorem q1953 : (Jvm.Cond.instanceMethod ({ cls := "SecretBuyersModel", name := "isSeen", desc := "(I)Z" } : Jvm.MethodName)) ∈ lw_all := lw_g (lw_at lw_m8 180 rfl) rfl
theorem q1954 : (Jvm.Cond.code ({ cls := "SecretBuyersModel", name := "isSeen", desc := "(I)Z" } : Jvm.MethodName) prog_21_method_49_code (2 : Nat) (Option.some Jvm.ClassFile.FieldType.boolean)) ∈ lw_all := lw_g (lw_at lw_m8 181 rfl) rfl
theorem q1955 : (Jvm.Cond.methodLink "SecretBuyersModel" (388 : Nat) ({ cls := "SecretBuyersModel", name := "viewDay", desc := "()I" } : Jvm.MethodName)) ∈ lw_all := lw_g (lw_at lw_m8 182 rfl) rfl
theorem q1956 : (Jvm.Cond.privateMethod ({ cls := "SecretBuyersModel", name := "viewDay", desc := "()I" } : Jvm.MethodName)) ∈ lw_tbl := lw_at lw_m8 183 rfl
theorem q1957 : (Jvm.Cond.instanceMethod ({ cls := "SecretBuyersModel", name := "viewDay", desc := "()I" } : Jvm.MethodName)) ∈ lw_all := lw_g (lw_at lw_m8 184 rfl) rfl
theorem q1958 : (Jvm.Cond.code ({ cls := "SecretBuyersModel", name := "viewDay", desc := "()I" } : Jvm.MethodName) prog_21_method_39_code (1 : Nat) (Option.some Jvm.ClassFile.FieldType.int)) ∈ lw_all := lw_g (lw_at lw_m8 185 rfl) rfl
theorem q1959 : (Jvm.Cond.methodLink "SecretBuyersModel" (450 : Nat) ({ cls := "SecretBuyersModel", name := "findAll", desc := "()V" } : Jvm.MethodName)) ∈ lw_all := lw_g (lw_at lw_m8 186 rfl) rfl
theorem q1960 : (Jvm.Cond.privateMethod ({ cls := "SecretBuyersModel", name := "findAll", desc := "()V" } : Jvm.MethodName)) ∈ lw_tbl := lw_at lw_m8 187 rfl
theorem q1961 : (Jvm.Cond.instanceMethod ({ cls := "SecretBuyersModel", name := "findAll", desc := "()V" } : Jvm.MethodName)) ∈ lw_all := lw_g (lw_at lw_m8 188 rfl) rfl
theorem q1962 : (Jvm.Cond.code ({ cls := "SecretBuyersModel", name := "findAll", desc := "()V" } : Jvm.MethodName) prog_21_method_56_code (4 : Nat) (Option.none : Option Jvm.ClassFile.FieldType)) ∈ lw_all := lw_g (lw_at lw_m8 189 rfl) rfl
theorem q1963 : (Jvm.Cond.methodLink "SecretBuyersModel" (397 : Nat) ({ cls := "SecretBuyersModel", name := "isAhead", desc := "(II)Z" } : Jvm.MethodName)) ∈ lw_all := lw_g (lw_at lw_m8 190 rfl) rfl
theorem q1964 : (Jvm.Cond.privateMethod ({ cls := "SecretBuyersModel", name := "isAhead", desc := "(II)Z" } : Jvm.MethodName)) ∈ lw_tbl := lw_at lw_m8 191 rfl
theorem q1965 : (Jvm.Cond.instanceMethod ({ cls := "SecretBuyersModel", name := "isAhead", desc := "(II)Z" } : Jvm.MethodName)) ∈ lw_all := lw_g (lw_at lw_m8 192 rfl) rfl
theorem q1966 : (Jvm.Cond.code ({ cls := "SecretBuyersModel", name := "isAhead", desc := "(II)Z" } : Jvm.MethodName) prog_21_method_53_code (5 : Nat) (Option.some Jvm.ClassFile.FieldType.boolean)) ∈ lw_all := lw_g (lw_at lw_m8 193 rfl) rfl
theorem q1967 : (Jvm.Cond.methodLink "SecretBuyersModel" (403 : Nat) ({ cls := "SecretBuyersModel", name := "latest", desc := "(II)I" } : Jvm.MethodName)) ∈ lw_all := lw_g (lw_at lw_m8 194 rfl) rfl
theorem q1968 : (Jvm.Cond.privateMethod ({ cls := "SecretBuyersModel", name := "latest", desc := "(II)I" } : Jvm.MethodName)) ∈ lw_tbl := lw_at lw_m8 195 rfl
theorem q1969 : (Jvm.Cond.instanceMethod ({ cls := "SecretBuyersModel", name := "latest", desc := "(II)I" } : Jvm.MethodName)) ∈ lw_all := lw_g (lw_at lw_m8 196 rfl) rfl
theorem q1970 : (Jvm.Cond.code ({ cls := "SecretBuyersModel", name := "latest", desc := "(II)I" } : Jvm.MethodName) prog_21_method_55_code (6 : Nat) (Option.some Jvm.ClassFile.FieldType.int)) ∈ lw_all := lw_g (lw_at lw_m8 197 rfl) rfl
theorem q1971 : (Jvm.Cond.methodLink "SecretBuyersModel" (406 : Nat) ({ cls := "SecretBuyersModel", name := "formNow", desc := "(I)I" } : Jvm.MethodName)) ∈ lw_all := lw_g (lw_at lw_m8 198 rfl) rfl
theorem q1972 : (Jvm.Cond.privateMethod ({ cls := "SecretBuyersModel", name := "formNow", desc := "(I)I" } : Jvm.MethodName)) ∈ lw_tbl := lw_at lw_m8 199 rfl
theorem q1973 : (Jvm.Cond.instanceMethod ({ cls := "SecretBuyersModel", name := "formNow", desc := "(I)I" } : Jvm.MethodName)) ∈ lw_all := lw_g (lw_at lw_m8 200 rfl) rfl
theorem q1974 : (Jvm.Cond.code ({ cls := "SecretBuyersModel", name := "formNow", desc := "(I)I" } : Jvm.MethodName) prog_21_method_50_code (4 : Nat) (Option.some Jvm.ClassFile.FieldType.int)) ∈ lw_all := lw_g (lw_at lw_m8 201 rfl) rfl
theorem q1975 : (Jvm.Cond.methodLink "SecretBuyersModel" (409 : Nat) ({ cls := "SecretBuyersModel", name := "tells", desc := "(III)V" } : Jvm.MethodName)) ∈ lw_all := lw_g (lw_at lw_m8 202 rfl) rfl
theorem q1976 : (Jvm.Cond.privateMethod ({ cls := "SecretBuyersModel", name := "tells", desc := "(III)V" } : Jvm.MethodName)) ∈ lw_tbl := lw_at lw_m8 203 rfl
theorem q1977 : (Jvm.Cond.instanceMethod ({ cls := "SecretBuyersModel", name := "tells", desc := "(III)V" } : Jvm.MethodName)) ∈ lw_all := lw_g (lw_at lw_m8 204 rfl) rfl
theorem q1978 : (Jvm.Cond.code ({ cls := "SecretBuyersModel", name := "tells", desc := "(III)V" } : Jvm.MethodName) prog_21_method_54_code (4 : Nat) (Option.none : Option Jvm.ClassFile.FieldType)) ∈ lw_all := lw_g (lw_at lw_m8 205 rfl) rfl
theorem q1979 : (Jvm.Cond.methodLink "SecretBuyersModel" (391 : Nat) ({ cls := "SecretBuyersModel", name := "bits", desc := "(I)I" } : Jvm.MethodName)) ∈ lw_all := lw_g (lw_at lw_m8 206 rfl) rfl
theorem q1980 : (Jvm.Cond.static ({ cls := "SecretBuyersModel", name := "bits", desc := "(I)I" } : Jvm.MethodName)) ∈ lw_all := lw_g (lw_at lw_m8 207 rfl) rfl
theorem q1981 : (Jvm.Cond.code ({ cls := "SecretBuyersModel", name := "bits", desc := "(I)I" } : Jvm.MethodName) prog_21_method_51_code (3 : Nat) (Option.some Jvm.ClassFile.FieldType.int)) ∈ lw_all := lw_g (lw_at lw_m8 208 rfl) rfl
theorem q1982 : (Jvm.Cond.methodLink "SecretBuyersModel" (413 : Nat) ({ cls := "SecretBuyersModel", name := "briefOf", desc := "(I)I" } : Jvm.MethodName)) ∈ lw_all := lw_g (lw_at lw_m8 209 rfl) rfl
theorem q1983 : (Jvm.Cond.privateMethod ({ cls := "SecretBuyersModel", name := "briefOf", desc := "(I)I" } : Jvm.MethodName)) ∈ lw_tbl := lw_at lw_m8 210 rfl
theorem q1984 : (Jvm.Cond.instanceMethod ({ cls := "SecretBuyersModel", name := "briefOf", desc := "(I)I" } : Jvm.MethodName)) ∈ lw_all := lw_g (lw_at lw_m8 211 rfl) rfl
theorem q1985 : (Jvm.Cond.code ({ cls := "SecretBuyersModel", name := "briefOf", desc := "(I)I" } : Jvm.MethodName) prog_21_method_52_code (5 : Nat) (Option.some Jvm.ClassFile.FieldType.int)) ∈ lw_all := lw_g (lw_at lw_m8 212 rfl) rfl
theorem q1986 : (Jvm.Cond.methodLink "SecretBuyersModel" (416 : Nat) ({ cls := "SecretBuyersModel", name := "judges", desc := "(I)V" } : Jvm.MethodName)) ∈ lw_all := lw_g (lw_at lw_m8 213 rfl) rfl
theorem q1987 : (Jvm.Cond.privateMethod ({ cls := "SecretBuyersModel", name := "judges", desc := "(I)V" } : Jvm.MethodName)) ∈ lw_tbl := lw_at lw_m8 214 rfl
theorem q1988 : (Jvm.Cond.instanceMethod ({ cls := "SecretBuyersModel", name := "judges", desc := "(I)V" } : Jvm.MethodName)) ∈ lw_all := lw_g (lw_at lw_m8 215 rfl) rfl
theorem q1989 : (Jvm.Cond.code ({ cls := "SecretBuyersModel", name := "judges", desc := "(I)V" } : Jvm.MethodName) prog_21_method_33_code (7 : Nat) (Option.none : Option Jvm.ClassFile.FieldType)) ∈ lw_all := lw_g (lw_at lw_m8 216 rfl) rfl
theorem q1990 : (Jvm.Cond.methodLink "SecretBuyersModel" (355 : Nat) ({ cls := "SecretBuyersModel", name := "worth", desc := "(I)I" } : Jvm.MethodName)) ∈ lw_all := lw_g (lw_at lw_m8 217 rfl) rfl
theorem q1991 : (Jvm.Cond.privateMethod ({ cls := "SecretBuyersModel", name := "worth", desc := "(I)I" } : Jvm.MethodName)) ∈ lw_tbl := lw_at lw_m8 218 rfl
theorem q1992 : (Jvm.Cond.instanceMethod ({ cls := "SecretBuyersModel", name := "worth", desc := "(I)I" } : Jvm.MethodName)) ∈ lw_all := lw_g (lw_at lw_m8 219 rfl) rfl
theorem q1993 : (Jvm.Cond.code ({ cls := "SecretBuyersModel", name := "worth", desc := "(I)I" } : Jvm.MethodName) prog_21_method_31_code (5 : Nat) (Option.some Jvm.ClassFile.FieldType.int)) ∈ lw_all := lw_g (lw_at lw_m8 220 rfl) rfl
theorem q1994 : (Jvm.Cond.methodLink "SecretBuyersModel" (345 : Nat) ({ cls := "SecretBuyersModel", name := "both", desc := "(III)I" } : Jvm.MethodName)) ∈ lw_all := lw_g (lw_at lw_m8 221 rfl) rfl
theorem q1995 : (Jvm.Cond.static ({ cls := "SecretBuyersModel", name := "both", desc := "(III)I" } : Jvm.MethodName)) ∈ lw_all := lw_g (lw_at lw_m8 222 rfl) rfl
theorem q1996 : (Jvm.Cond.code ({ cls := "SecretBuyersModel", name := "both", desc := "(III)I" } : Jvm.MethodName) prog_21_method_32_code (3 : Nat) (Option.some Jvm.ClassFile.FieldType.int)) ∈ lw_all := lw_g (lw_at lw_m8 223 rfl) rfl
theorem q1997 : (Jvm.Cond.methodLink "SecretBuyersModel" (419 : Nat) ({ cls := "SecretBuyersModel", name := "isAlone", desc := "(I)Z" } : Jvm.MethodName)) ∈ lw_all := lw_g (lw_at lw_m8 224 rfl) rfl
theorem q1998 : (Jvm.Cond.privateMethod ({ cls := "SecretBuyersModel", name := "isAlone", desc := "(I)Z" } : Jvm.MethodName)) ∈ lw_tbl := lw_at lw_m8 225 rfl
theorem q1999 : (Jvm.Cond.instanceMethod ({ cls := "SecretBuyersModel", name := "isAlone", desc := "(I)Z" } : Jvm.MethodName)) ∈ lw_all := lw_g (lw_at lw_m8 226 rfl) rfl
theorem q2000 : (Jvm.Cond.code ({ cls := "SecretBuyersModel", name := "isAlone", desc := "(I)Z" } : Jvm.MethodName) prog_21_method_57_code (6 : Nat) (Option.some Jvm.ClassFile.FieldType.boolean)) ∈ lw_all := lw_g (lw_at lw_m8 227 rfl) rfl
theorem q2001 : (Jvm.Cond.methodLink "SecretBuyersModel" (425 : Nat) ({ cls := "SecretBuyersModel", name := "findFewest", desc := "(II)V" } : Jvm.MethodName)) ∈ lw_all := lw_g (lw_at lw_m8 228 rfl) rfl
theorem q2002 : (Jvm.Cond.privateMethod ({ cls := "SecretBuyersModel", name := "findFewest", desc := "(II)V" } : Jvm.MethodName)) ∈ lw_tbl := lw_at lw_m8 229 rfl
theorem q2003 : (Jvm.Cond.instanceMethod ({ cls := "SecretBuyersModel", name := "findFewest", desc := "(II)V" } : Jvm.MethodName)) ∈ lw_all := lw_g (lw_at lw_m8 230 rfl) rfl
theorem q2004 : (Jvm.Cond.code ({ cls := "SecretBuyersModel", name := "findFewest", desc := "(II)V" } : Jvm.MethodName) prog_21_method_60_code (7 : Nat) (Option.none : Option Jvm.ClassFile.FieldType)) ∈ lw_all := lw_g (lw_at lw_m8 231 rfl) rfl
theorem q2005 : (Jvm.Cond.methodLink "SecretBuyersModel" (438 : Nat) ({ cls := "SecretBuyersModel", name := "areBoth", desc := "(II)Z" } : Jvm.MethodName)) ∈ lw_all := lw_g (lw_at lw_m8 232 rfl) rfl
theorem q2006 : (Jvm.Cond.privateMethod ({ cls := "SecretBuyersModel", name := "areBoth", desc := "(II)Z" } : Jvm.MethodName)) ∈ lw_tbl := lw_at lw_m8 233 rfl
theorem q2007 : (Jvm.Cond.instanceMethod ({ cls := "SecretBuyersModel", name := "areBoth", desc := "(II)Z" } : Jvm.MethodName)) ∈ lw_all := lw_g (lw_at lw_m8 234 rfl) rfl
theorem q2008 : (Jvm.Cond.code ({ cls := "SecretBuyersModel", name := "areBoth", desc := "(II)Z" } : Jvm.MethodName) prog_21_method_59_code (6 : Nat) (Option.some Jvm.ClassFile.FieldType.boolean)) ∈ lw_all := lw_g (lw_at lw_m8 235 rfl) rfl
theorem q2009 : (Jvm.Cond.methodLink "SecretBuyersModel" (431 : Nat) ({ cls := "SecretBuyersModel", name := "wayBetween", desc := "(IIII)I" } : Jvm.MethodName)) ∈ lw_all := lw_g (lw_at lw_m8 236 rfl) rfl
theorem q2010 : (Jvm.Cond.static ({ cls := "SecretBuyersModel", name := "wayBetween", desc := "(IIII)I" } : Jvm.MethodName)) ∈ lw_all := lw_g (lw_at lw_m8 237 rfl) rfl
theorem q2011 : (Jvm.Cond.code ({ cls := "SecretBuyersModel", name := "wayBetween", desc := "(IIII)I" } : Jvm.MethodName) prog_21_method_58_code (4 : Nat) (Option.some Jvm.ClassFile.FieldType.int)) ∈ lw_all := lw_g (lw_at lw_m8 238 rfl) rfl
theorem q2012 : (Jvm.Cond.methodLink "SecretBuyersModel" (444 : Nat) ({ cls := "SecretBuyersModel", name := "doesDo", desc := "(I)Z" } : Jvm.MethodName)) ∈ lw_all := lw_g (lw_at lw_m8 239 rfl) rfl
theorem q2013 : (Jvm.Cond.privateMethod ({ cls := "SecretBuyersModel", name := "doesDo", desc := "(I)Z" } : Jvm.MethodName)) ∈ lw_tbl := lw_at lw_m9 0 rfl
theorem q2014 : (Jvm.Cond.instanceMethod ({ cls := "SecretBuyersModel", name := "doesDo", desc := "(I)Z" } : Jvm.MethodName)) ∈ lw_all := lw_g (lw_at lw_m9 1 rfl) rfl
theorem q2015 : (Jvm.Cond.code ({ cls := "SecretBuyersModel", name := "doesDo", desc := "(I)Z" } : Jvm.MethodName) prog_21_method_62_code (4 : Nat) (Option.some Jvm.ClassFile.FieldType.boolean)) ∈ lw_all := lw_g (lw_at lw_m9 2 rfl) rfl
theorem q2016 : (Jvm.Cond.methodLink "SecretBuyersModel" (447 : Nat) ({ cls := "SecretBuyersModel", name := "isFirst", desc := "(II)Z" } : Jvm.MethodName)) ∈ lw_all := lw_g (lw_at lw_m9 3 rfl) rfl
theorem q2017 : (Jvm.Cond.static ({ cls := "SecretBuyersModel", name := "isFirst", desc := "(II)Z" } : Jvm.MethodName)) ∈ lw_all := lw_g (lw_at lw_m9 4 rfl) rfl
theorem q2018 : (Jvm.Cond.code ({ cls := "SecretBuyersModel", name := "isFirst", desc := "(II)Z" } : Jvm.MethodName) prog_21_method_61_code (3 : Nat) (Option.some Jvm.ClassFile.FieldType.boolean)) ∈ lw_all := lw_g (lw_at lw_m9 5 rfl) rfl
theorem q2019 : (Jvm.Cond.methodLink "SecretBuyersModel" (453 : Nat) ({ cls := "SecretBuyersModel", name := "counts", desc := "(I)Z" } : Jvm.MethodName)) ∈ lw_all := lw_g (lw_at lw_m9 6 rfl) rfl
theorem q2020 : (Jvm.Cond.privateMethod ({ cls := "SecretBuyersModel", name := "counts", desc := "(I)Z" } : Jvm.MethodName)) ∈ lw_tbl := lw_at lw_m9 7 rfl
theorem q2021 : (Jvm.Cond.instanceMethod ({ cls := "SecretBuyersModel", name := "counts", desc := "(I)Z" } : Jvm.MethodName)) ∈ lw_all := lw_g (lw_at lw_m9 8 rfl) rfl
theorem q2022 : (Jvm.Cond.code ({ cls := "SecretBuyersModel", name := "counts", desc := "(I)Z" } : Jvm.MethodName) prog_21_method_63_code (2 : Nat) (Option.some Jvm.ClassFile.FieldType.boolean)) ∈ lw_all := lw_g (lw_at lw_m9 9 rfl) rfl
theorem q2024 : (Jvm.Cond.instanceMethod ({ cls := "SecretBuyersModel", name := "fewest", desc := "(II)I" } : Jvm.MethodName)) ∈ lw_all := lw_g (lw_at lw_m9 11 rfl) rfl
theorem q2025 : (Jvm.Cond.selects "SecretBuyersModel" ({ cls := "SecretBuyersModel", name := "fewest", desc := "(II)I" } : Jvm.MethodName) ({ cls := "SecretBuyersModel", name := "fewest", desc := "(II)I" } : Jvm.MethodName)) ∈ lw_all := lw_g (lw_at lw_m9 12 rfl) rfl
theorem q2026 : (Jvm.Cond.code ({ cls := "SecretBuyersModel", name := "fewest", desc := "(II)I" } : Jvm.MethodName) prog_21_method_65_code (3 : Nat) (Option.some Jvm.ClassFile.FieldType.int)) ∈ lw_all := lw_g (lw_at lw_m9 13 rfl) rfl
theorem q2027 : (Jvm.Cond.methodLink "SecretBuyersModel" (456 : Nat) ({ cls := "SecretBuyersModel", name := "isDay", desc := "(I)Z" } : Jvm.MethodName)) ∈ lw_all := lw_g (lw_at lw_m9 14 rfl) rfl
theorem q2028 : (Jvm.Cond.static ({ cls := "SecretBuyersModel", name := "isDay", desc := "(I)Z" } : Jvm.MethodName)) ∈ lw_all := lw_g (lw_at lw_m9 15 rfl) rfl
theorem q2029 : (Jvm.Cond.code ({ cls := "SecretBuyersModel", name := "isDay", desc := "(I)Z" } : Jvm.MethodName) prog_21_method_36_code (1 : Nat) (Option.some Jvm.ClassFile.FieldType.boolean)) ∈ lw_all := lw_g (lw_at lw_m9 16 rfl) rfl
theorem q2031 : (Jvm.Cond.instanceMethod ({ cls := "SecretBuyersModel", name := "set", desc := "(III)I" } : Jvm.MethodName)) ∈ lw_all := lw_g (lw_at lw_m9 18 rfl) rfl
theorem q2032 : (Jvm.Cond.selects "SecretBuyersModel" ({ cls := "SecretBuyersModel", name := "set", desc := "(III)I" } : Jvm.MethodName) ({ cls := "SecretBuyersModel", name := "set", desc := "(III)I" } : Jvm.MethodName)) ∈ lw_all := lw_g (lw_at lw_m9 19 rfl) rfl
theorem q2033 : (Jvm.Cond.code ({ cls := "SecretBuyersModel", name := "set", desc := "(III)I" } : Jvm.MethodName) prog_21_method_66_code (6 : Nat) (Option.some Jvm.ClassFile.FieldType.int)) ∈ lw_all := lw_g (lw_at lw_m9 20 rfl) rfl
theorem q2035 : (Jvm.Cond.instanceMethod ({ cls := "SecretBuyersModel", name := "fair", desc := "(I)I" } : Jvm.MethodName)) ∈ lw_all := lw_g (lw_at lw_m9 22 rfl) rfl
theorem q2036 : (Jvm.Cond.selects "SecretBuyersModel" ({ cls := "SecretBuyersModel", name := "fair", desc := "(I)I" } : Jvm.MethodName) ({ cls := "SecretBuyersModel", name := "fair", desc := "(I)I" } : Jvm.MethodName)) ∈ lw_all := lw_g (lw_at lw_m9 23 rfl) rfl
theorem q2037 : (Jvm.Cond.code ({ cls := "SecretBuyersModel", name := "fair", desc := "(I)I" } : Jvm.MethodName) prog_21_method_70_code (2 : Nat) (Option.some Jvm.ClassFile.FieldType.int)) ∈ lw_all := lw_g (lw_at lw_m9 24 rfl) rfl
theorem q2038 : (Jvm.Cond.methodLink "SecretBuyersModel" (462 : Nat) ({ cls := "SecretBuyersModel", name := "findLeans", desc := "()V" } : Jvm.MethodName)) ∈ lw_all := lw_g (lw_at lw_m9 25 rfl) rfl
theorem q2039 : (Jvm.Cond.privateMethod ({ cls := "SecretBuyersModel", name := "findLeans", desc := "()V" } : Jvm.MethodName)) ∈ lw_tbl := lw_at lw_m9 26 rfl
theorem q2040 : (Jvm.Cond.instanceMethod ({ cls := "SecretBuyersModel", name := "findLeans", desc := "()V" } : Jvm.MethodName)) ∈ lw_all := lw_g (lw_at lw_m9 27 rfl) rfl
theorem q2041 : (Jvm.Cond.code ({ cls := "SecretBuyersModel", name := "findLeans", desc := "()V" } : Jvm.MethodName) prog_21_method_68_code (5 : Nat) (Option.none : Option Jvm.ClassFile.FieldType)) ∈ lw_all := lw_g (lw_at lw_m9 28 rfl) rfl
theorem q2042 : (Jvm.Cond.methodLink "SecretBuyersModel" (459 : Nat) ({ cls := "SecretBuyersModel", name := "isMeeting", desc := "(II)Z" } : Jvm.MethodName)) ∈ lw_all := lw_g (lw_at lw_m9 29 rfl) rfl
theorem q2043 : (Jvm.Cond.privateMethod ({ cls := "SecretBuyersModel", name := "isMeeting", desc := "(II)Z" } : Jvm.MethodName)) ∈ lw_tbl := lw_at lw_m9 30 rfl
theorem q2044 : (Jvm.Cond.instanceMethod ({ cls := "SecretBuyersModel", name := "isMeeting", desc := "(II)Z" } : Jvm.MethodName)) ∈ lw_all := lw_g (lw_at lw_m9 31 rfl) rfl
theorem q2045 : (Jvm.Cond.code ({ cls := "SecretBuyersModel", name := "isMeeting", desc := "(II)Z" } : Jvm.MethodName) prog_21_method_67_code (3 : Nat) (Option.some Jvm.ClassFile.FieldType.boolean)) ∈ lw_all := lw_g (lw_at lw_m9 32 rfl) rfl
theorem q2046 : (Jvm.Cond.methodLink "SecretBuyersModel" (465 : Nat) ({ cls := "SecretBuyersModel", name := "fairOf", desc := "(I)I" } : Jvm.MethodName)) ∈ lw_all := lw_g (lw_at lw_m9 33 rfl) rfl
theorem q2047 : (Jvm.Cond.privateMethod ({ cls := "SecretBuyersModel", name := "fairOf", desc := "(I)I" } : Jvm.MethodName)) ∈ lw_tbl := lw_at lw_m9 34 rfl
theorem q2048 : (Jvm.Cond.instanceMethod ({ cls := "SecretBuyersModel", name := "fairOf", desc := "(I)I" } : Jvm.MethodName)) ∈ lw_all := lw_g (lw_at lw_m9 35 rfl) rfl
theorem q2049 : (Jvm.Cond.code ({ cls := "SecretBuyersModel", name := "fairOf", desc := "(I)I" } : Jvm.MethodName) prog_21_method_69_code (2 : Nat) (Option.some Jvm.ClassFile.FieldType.int)) ∈ lw_all := lw_g (lw_at lw_m9 36 rfl) rfl
theorem q2051 : (Jvm.Cond.instanceMethod ({ cls := "SecretBuyersModel", name := "lean", desc := "(I)I" } : Jvm.MethodName)) ∈ lw_all := lw_g (lw_at lw_m9 38 rfl) rfl
theorem q2052 : (Jvm.Cond.selects "SecretBuyersModel" ({ cls := "SecretBuyersModel", name := "lean", desc := "(I)I" } : Jvm.MethodName) ({ cls := "SecretBuyersModel", name := "lean", desc := "(I)I" } : Jvm.MethodName)) ∈ lw_all := lw_g (lw_at lw_m9 39 rfl) rfl
theorem q2053 : (Jvm.Cond.code ({ cls := "SecretBuyersModel", name := "lean", desc := "(I)I" } : Jvm.MethodName) prog_21_method_71_code (2 : Nat) (Option.some Jvm.ClassFile.FieldType.int)) ∈ lw_all := lw_g (lw_at lw_m9 40 rfl) rfl
theorem q2055 : (Jvm.Cond.instanceMethod ({ cls := "SecretBuyersModel", name := "meetings", desc := "(II)I" } : Jvm.MethodName)) ∈ lw_all := lw_g (lw_at lw_m9 42 rfl) rfl
theorem q2056 : (Jvm.Cond.selects "SecretBuyersModel" ({ cls := "SecretBuyersModel", name := "meetings", desc := "(II)I" } : Jvm.MethodName) ({ cls := "SecretBuyersModel", name := "meetings", desc := "(II)I" } : Jvm.MethodName)) ∈ lw_all := lw_g (lw_at lw_m9 43 rfl) rfl
theorem q2057 : (Jvm.Cond.code ({ cls := "SecretBuyersModel", name := "meetings", desc := "(II)I" } : Jvm.MethodName) prog_21_method_72_code (6 : Nat) (Option.some Jvm.ClassFile.FieldType.int)) ∈ lw_all := lw_g (lw_at lw_m9 44 rfl) rfl
theorem q2059 : (Jvm.Cond.instanceMethod ({ cls := "SecretBuyersModel", name := "mean", desc := "(III)I" } : Jvm.MethodName)) ∈ lw_all := lw_g (lw_at lw_m9 46 rfl) rfl
theorem q2060 : (Jvm.Cond.selects "SecretBuyersModel" ({ cls := "SecretBuyersModel", name := "mean", desc := "(III)I" } : Jvm.MethodName) ({ cls := "SecretBuyersModel", name := "mean", desc := "(III)I" } : Jvm.MethodName)) ∈ lw_all := lw_g (lw_at lw_m9 47 rfl) rfl
theorem q2061 : (Jvm.Cond.code ({ cls := "SecretBuyersModel", name := "mean", desc := "(III)I" } : Jvm.MethodName) prog_21_method_76_code (4 : Nat) (Option.some Jvm.ClassFile.FieldType.int)) ∈ lw_all := lw_g (lw_at lw_m9 48 rfl) rfl
theorem q2062 : (Jvm.Cond.methodLink "SecretBuyersModel" (474 : Nat) ({ cls := "SecretBuyersModel", name := "hasMean", desc := "(III)Z" } : Jvm.MethodName)) ∈ lw_all := lw_g (lw_at lw_m9 49 rfl) rfl
theorem q2063 : (Jvm.Cond.privateMethod ({ cls := "SecretBuyersModel", name := "hasMean", desc := "(III)Z" } : Jvm.MethodName)) ∈ lw_tbl := lw_at lw_m9 50 rfl
theorem q2064 : (Jvm.Cond.instanceMethod ({ cls := "SecretBuyersModel", name := "hasMean", desc := "(III)Z" } : Jvm.MethodName)) ∈ lw_all := lw_g (lw_at lw_m9 51 rfl) rfl
theorem q2065 : (Jvm.Cond.code ({ cls := "SecretBuyersModel", name := "hasMean", desc := "(III)Z" } : Jvm.MethodName) prog_21_method_75_code (4 : Nat) (Option.some Jvm.ClassFile.FieldType.boolean)) ∈ lw_all := lw_g (lw_at lw_m9 52 rfl) rfl
theorem q2066 : (Jvm.Cond.methodLink "SecretBuyersModel" (468 : Nat) ({ cls := "SecretBuyersModel", name := "areDays", desc := "(II)Z" } : Jvm.MethodName)) ∈ lw_all := lw_g (lw_at lw_m9 53 rfl) rfl
theorem q2067 : (Jvm.Cond.static ({ cls := "SecretBuyersModel", name := "areDays", desc := "(II)Z" } : Jvm.MethodName)) ∈ lw_all := lw_g (lw_at lw_m9 54 rfl) rfl
theorem q2068 : (Jvm.Cond.code ({ cls := "SecretBuyersModel", name := "areDays", desc := "(II)Z" } : Jvm.MethodName) prog_21_method_73_code (2 : Nat) (Option.some Jvm.ClassFile.FieldType.boolean)) ∈ lw_all := lw_g (lw_at lw_m9 55 rfl) rfl
theorem q2069 : (Jvm.Cond.methodLink "SecretBuyersModel" (471 : Nat) ({ cls := "SecretBuyersModel", name := "findMeans", desc := "(II)V" } : Jvm.MethodName)) ∈ lw_all := lw_g (lw_at lw_m9 56 rfl) rfl
theorem q2070 : (Jvm.Cond.privateMethod ({ cls := "SecretBuyersModel", name := "findMeans", desc := "(II)V" } : Jvm.MethodName)) ∈ lw_tbl := lw_at lw_m9 57 rfl
theorem q2071 : (Jvm.Cond.instanceMethod ({ cls := "SecretBuyersModel", name := "findMeans", desc := "(II)V" } : Jvm.MethodName)) ∈ lw_all := lw_g (lw_at lw_m9 58 rfl) rfl
theorem q2072 : (Jvm.Cond.code ({ cls := "SecretBuyersModel", name := "findMeans", desc := "(II)V" } : Jvm.MethodName) prog_21_method_74_code (6 : Nat) (Option.none : Option Jvm.ClassFile.FieldType)) ∈ lw_all := lw_g (lw_at lw_m9 59 rfl) rfl
theorem q2074 : (Jvm.Cond.instanceMethod ({ cls := "SecretBuyersModel", name := "doubt", desc := "(III)I" } : Jvm.MethodName)) ∈ lw_all := lw_g (lw_at lw_m9 61 rfl) rfl
theorem q2075 : (Jvm.Cond.selects "SecretBuyersModel" ({ cls := "SecretBuyersModel", name := "doubt", desc := "(III)I" } : Jvm.MethodName) ({ cls := "SecretBuyersModel", name := "doubt", desc := "(III)I" } : Jvm.MethodName)) ∈ lw_all := lw_g (lw_at lw_m9 62 rfl) rfl
theorem q2076 : (Jvm.Cond.code ({ cls := "SecretBuyersModel", name := "doubt", desc := "(III)I" } : Jvm.MethodName) prog_21_method_78_code (4 : Nat) (Option.some Jvm.ClassFile.FieldType.int)) ∈ lw_all := lw_g (lw_at lw_m9 63 rfl) rfl
theorem q2077 : (Jvm.Cond.methodLink "SecretBuyersModel" (477 : Nat) ({ cls := "SecretBuyersModel", name := "doubtOf", desc := "(I)I" } : Jvm.MethodName)) ∈ lw_all := lw_g (lw_at lw_m9 64 rfl) rfl
theorem q2078 : (Jvm.Cond.privateMethod ({ cls := "SecretBuyersModel", name := "doubtOf", desc := "(I)I" } : Jvm.MethodName)) ∈ lw_tbl := lw_at lw_m9 65 rfl
theorem q2079 : (Jvm.Cond.instanceMethod ({ cls := "SecretBuyersModel", name := "doubtOf", desc := "(I)I" } : Jvm.MethodName)) ∈ lw_all := lw_g (lw_at lw_m9 66 rfl) rfl
theorem q2080 : (Jvm.Cond.code ({ cls := "SecretBuyersModel", name := "doubtOf", desc := "(I)I" } : Jvm.MethodName) prog_21_method_77_code (2 : Nat) (Option.some Jvm.ClassFile.FieldType.int)) ∈ lw_all := lw_g (lw_at lw_m9 67 rfl) rfl
theorem q2082 : (Jvm.Cond.instanceMethod ({ cls := "SecretBuyersModel", name := "apart", desc := "(IIII)I" } : Jvm.MethodName)) ∈ lw_all := lw_g (lw_at lw_m9 69 rfl) rfl
theorem q2083 : (Jvm.Cond.selects "SecretBuyersModel" ({ cls := "SecretBuyersModel", name := "apart", desc := "(IIII)I" } : Jvm.MethodName) ({ cls := "SecretBuyersModel", name := "apart", desc := "(IIII)I" } : Jvm.MethodName)) ∈ lw_all := lw_g (lw_at lw_m9 70 rfl) rfl
theorem q2084 : (Jvm.Cond.code ({ cls := "SecretBuyersModel", name := "apart", desc := "(IIII)I" } : Jvm.MethodName) prog_21_method_81_code (5 : Nat) (Option.some Jvm.ClassFile.FieldType.int)) ∈ lw_all := lw_g (lw_at lw_m9 71 rfl) rfl
theorem q2085 : (Jvm.Cond.methodLink "SecretBuyersModel" (480 : Nat) ({ cls := "SecretBuyersModel", name := "areTwo", desc := "(IIII)Z" } : Jvm.MethodName)) ∈ lw_all := lw_g (lw_at lw_m9 72 rfl) rfl
theorem q2086 : (Jvm.Cond.privateMethod ({ cls := "SecretBuyersModel", name := "areTwo", desc := "(IIII)Z" } : Jvm.MethodName)) ∈ lw_tbl := lw_at lw_m9 73 rfl
theorem q2087 : (Jvm.Cond.instanceMethod ({ cls := "SecretBuyersModel", name := "areTwo", desc := "(IIII)Z" } : Jvm.MethodName)) ∈ lw_all := lw_g (lw_at lw_m9 74 rfl) rfl
theorem q2088 : (Jvm.Cond.code ({ cls := "SecretBuyersModel", name := "areTwo", desc := "(IIII)Z" } : Jvm.MethodName) prog_21_method_80_code (5 : Nat) (Option.some Jvm.ClassFile.FieldType.boolean)) ∈ lw_all := lw_g (lw_at lw_m9 75 rfl) rfl
theorem q2089 : (Jvm.Cond.methodLink "SecretBuyersModel" (484 : Nat) ({ cls := "SecretBuyersModel", name := "isLess", desc := "(II)Z" } : Jvm.MethodName)) ∈ lw_all := lw_g (lw_at lw_m9 76 rfl) rfl
theorem q2090 : (Jvm.Cond.privateMethod ({ cls := "SecretBuyersModel", name := "isLess", desc := "(II)Z" } : Jvm.MethodName)) ∈ lw_tbl := lw_at lw_m9 77 rfl
theorem q2091 : (Jvm.Cond.instanceMethod ({ cls := "SecretBuyersModel", name := "isLess", desc := "(II)Z" } : Jvm.MethodName)) ∈ lw_all := lw_g (lw_at lw_m9 78 rfl) rfl
theorem q2092 : (Jvm.Cond.code ({ cls := "SecretBuyersModel", name := "isLess", desc := "(II)Z" } : Jvm.MethodName) prog_21_method_79_code (3 : Nat) (Option.some Jvm.ClassFile.FieldType.boolean)) ∈ lw_all := lw_g (lw_at lw_m9 79 rfl) rfl
theorem q2094 : (Jvm.Cond.instanceMethod ({ cls := "SecretBuyersModel", name := "order", desc := "(IIII)I" } : Jvm.MethodName)) ∈ lw_all := lw_g (lw_at lw_m9 81 rfl) rfl
theorem q2095 : (Jvm.Cond.selects "SecretBuyersModel" ({ cls := "SecretBuyersModel", name := "order", desc := "(IIII)I" } : Jvm.MethodName) ({ cls := "SecretBuyersModel", name := "order", desc := "(IIII)I" } : Jvm.MethodName)) ∈ lw_all := lw_g (lw_at lw_m9 82 rfl) rfl
theorem q2096 : (Jvm.Cond.code ({ cls := "SecretBuyersModel", name := "order", desc := "(IIII)I" } : Jvm.MethodName) prog_21_method_82_code (11 : Nat) (Option.some Jvm.ClassFile.FieldType.int)) ∈ lw_all := lw_g (lw_at lw_m9 83 rfl) rfl
theorem q2098 : (Jvm.Cond.instanceMethod ({ cls := "SecretBuyersModel", name := "enough", desc := "(IIII)I" } : Jvm.MethodName)) ∈ lw_all := lw_g (lw_at lw_m9 85 rfl) rfl
theorem q2099 : (Jvm.Cond.selects "SecretBuyersModel" ({ cls := "SecretBuyersModel", name := "enough", desc := "(IIII)I" } : Jvm.MethodName) ({ cls := "SecretBuyersModel", name := "enough", desc := "(IIII)I" } : Jvm.MethodName)) ∈ lw_all := lw_g (lw_at lw_m9 86 rfl) rfl
theorem q2100 : (Jvm.Cond.code ({ cls := "SecretBuyersModel", name := "enough", desc := "(IIII)I" } : Jvm.MethodName) prog_21_method_83_code (7 : Nat) (Option.some Jvm.ClassFile.FieldType.int)) ∈ lw_all := lw_g (lw_at lw_m9 87 rfl) rfl
theorem q2102 : (Jvm.Cond.instanceMethod ({ cls := "SecretBuyersModel", name := "may", desc := "(III)I" } : Jvm.MethodName)) ∈ lw_all := lw_g (lw_at lw_m9 89 rfl) rfl
theorem q2103 : (Jvm.Cond.selects "SecretBuyersModel" ({ cls := "SecretBuyersModel", name := "may", desc := "(III)I" } : Jvm.MethodName) ({ cls := "SecretBuyersModel", name := "may", desc := "(III)I" } : Jvm.MethodName)) ∈ lw_all := lw_g (lw_at lw_m9 90 rfl) rfl
theorem q2104 : (Jvm.Cond.code ({ cls := "SecretBuyersModel", name := "may", desc := "(III)I" } : Jvm.MethodName) prog_21_method_85_code (4 : Nat) (Option.some Jvm.ClassFile.FieldType.int)) ∈ lw_all := lw_g (lw_at lw_m9 91 rfl) rfl
theorem q2105 : (Jvm.Cond.methodLink "SecretBuyersModel" (487 : Nat) ({ cls := "SecretBuyersModel", name := "mayGo", desc := "(III)Z" } : Jvm.MethodName)) ∈ lw_all := lw_g (lw_at lw_m9 92 rfl) rfl
theorem q2106 : (Jvm.Cond.privateMethod ({ cls := "SecretBuyersModel", name := "mayGo", desc := "(III)Z" } : Jvm.MethodName)) ∈ lw_tbl := lw_at lw_m9 93 rfl
theorem q2107 : (Jvm.Cond.instanceMethod ({ cls := "SecretBuyersModel", name := "mayGo", desc := "(III)Z" } : Jvm.MethodName)) ∈ lw_all := lw_g (lw_at lw_m9 94 rfl) rfl
theorem q2108 : (Jvm.Cond.code ({ cls := "SecretBuyersModel", name := "mayGo", desc := "(III)Z" } : Jvm.MethodName) prog_21_method_84_code (8 : Nat) (Option.some Jvm.ClassFile.FieldType.boolean)) ∈ lw_all := lw_g (lw_at lw_m9 95 rfl) rfl
theorem q2110 : (Jvm.Cond.instanceMethod ({ cls := "SecretBuyersModel", name := "given", desc := "(III)I" } : Jvm.MethodName)) ∈ lw_all := lw_g (lw_at lw_m9 97 rfl) rfl
theorem q2111 : (Jvm.Cond.selects "SecretBuyersModel" ({ cls := "SecretBuyersModel", name := "given", desc := "(III)I" } : Jvm.MethodName) ({ cls := "SecretBuyersModel", name := "given", desc := "(III)I" } : Jvm.MethodName)) ∈ lw_all := lw_g (lw_at lw_m9 98 rfl) rfl
theorem q2112 : (Jvm.Cond.code ({ cls := "SecretBuyersModel", name := "given", desc := "(III)I" } : Jvm.MethodName) prog_21_method_89_code (6 : Nat) (Option.some Jvm.ClassFile.FieldType.int)) ∈ lw_all := lw_g (lw_at lw_m9 99 rfl) rfl
theorem q2113 : (Jvm.Cond.methodLink "SecretBuyersModel" (497 : Nat) ({ cls := "SecretBuyersModel", name := "gives", desc := "(II)I" } : Jvm.MethodName)) ∈ lw_all := lw_g (lw_at lw_m9 100 rfl) rfl
theorem q2114 : (Jvm.Cond.privateMethod ({ cls := "SecretBuyersModel", name := "gives", desc := "(II)I" } : Jvm.MethodName)) ∈ lw_tbl := lw_at lw_m9 101 rfl
theorem q2115 : (Jvm.Cond.instanceMethod ({ cls := "SecretBuyersModel", name := "gives", desc := "(II)I" } : Jvm.MethodName)) ∈ lw_all := lw_g (lw_at lw_m9 102 rfl) rfl
theorem q2116 : (Jvm.Cond.code ({ cls := "SecretBuyersModel", name := "gives", desc := "(II)I" } : Jvm.MethodName) prog_21_method_88_code (9 : Nat) (Option.some Jvm.ClassFile.FieldType.int)) ∈ lw_all := lw_g (lw_at lw_m9 103 rfl) rfl
theorem q2117 : (Jvm.Cond.methodLink "SecretBuyersModel" (491 : Nat) ({ cls := "SecretBuyersModel", name := "wayOf", desc := "(II)I" } : Jvm.MethodName)) ∈ lw_all := lw_g (lw_at lw_m9 104 rfl) rfl
theorem q2118 : (Jvm.Cond.privateMethod ({ cls := "SecretBuyersModel", name := "wayOf", desc := "(II)I" } : Jvm.MethodName)) ∈ lw_tbl := lw_at lw_m9 105 rfl
theorem q2119 : (Jvm.Cond.instanceMethod ({ cls := "SecretBuyersModel", name := "wayOf", desc := "(II)I" } : Jvm.MethodName)) ∈ lw_all := lw_g (lw_at lw_m9 106 rfl) rfl
theorem q2120 : (Jvm.Cond.code ({ cls := "SecretBuyersModel", name := "wayOf", desc := "(II)I" } : Jvm.MethodName) prog_21_method_86_code (3 : Nat) (Option.some Jvm.ClassFile.FieldType.int)) ∈ lw_all := lw_g (lw_at lw_m9 107 rfl) rfl
theorem q2121 : (Jvm.Cond.constant "SecretBuyersModel" (490 : Nat) (1000000 : Int32)) ∈ lw_all := lw_g (lw_at lw_m9 108 rfl) rfl
theorem q2122 : (Jvm.Cond.methodLink "SecretBuyersModel" (494 : Nat) ({ cls := "SecretBuyersModel", name := "sumBy", desc := "(III)I" } : Jvm.MethodName)) ∈ lw_all := lw_g (lw_at lw_m9 109 rfl) rfl
theorem q2123 : (Jvm.Cond.privateMethod ({ cls := "SecretBuyersModel", name := "sumBy", desc := "(III)I" } : Jvm.MethodName)) ∈ lw_tbl := lw_at lw_m9 110 rfl
theorem q2124 : (Jvm.Cond.instanceMethod ({ cls := "SecretBuyersModel", name := "sumBy", desc := "(III)I" } : Jvm.MethodName)) ∈ lw_all := lw_g (lw_at lw_m9 111 rfl) rfl
theorem q2125 : (Jvm.Cond.code ({ cls := "SecretBuyersModel", name := "sumBy", desc := "(III)I" } : Jvm.MethodName) prog_21_method_87_code (5 : Nat) (Option.some Jvm.ClassFile.FieldType.int)) ∈ lw_all := lw_g (lw_at lw_m9 112 rfl) rfl
theorem q2127 : (Jvm.Cond.instanceMethod ({ cls := "SecretBuyersModel", name := "drawn", desc := "(III)I" } : Jvm.MethodName)) ∈ lw_all := lw_g (lw_at lw_m9 114 rfl) rfl
theorem q2128 : (Jvm.Cond.selects "SecretBuyersModel" ({ cls := "SecretBuyersModel", name := "drawn", desc := "(III)I" } : Jvm.MethodName) ({ cls := "SecretBuyersModel", name := "drawn", desc := "(III)I" } : Jvm.MethodName)) ∈ lw_all := lw_g (lw_at lw_m9 115 rfl) rfl
theorem q2129 : (Jvm.Cond.code ({ cls := "SecretBuyersModel", name := "drawn", desc := "(III)I" } : Jvm.MethodName) prog_21_method_90_code (10 : Nat) (Option.some Jvm.ClassFile.FieldType.int)) ∈ lw_all := lw_g (lw_at lw_m9 116 rfl) rfl
theorem q2130 : (Jvm.Cond.constantLong "SecretBuyersModel" (500 : Nat) (1103515245 : Int64)) ∈ lw_all := lw_g (lw_at lw_m9 117 rfl) rfl
theorem q2131 : (Jvm.Cond.constantLong "SecretBuyersModel" (502 : Nat) (12345 : Int64)) ∈ lw_all := lw_g (lw_at lw_m9 118 rfl) rfl
theorem q2132 : (Jvm.Cond.constantLong "SecretBuyersModel" (504 : Nat) (2147483648 : Int64)) ∈ lw_all := lw_g (lw_at lw_m9 119 rfl) rfl
theorem q2133 : (Jvm.Cond.constantLong "SecretBuyersModel" (506 : Nat) (65536 : Int64)) ∈ lw_all := lw_g (lw_at lw_m9 120 rfl) rfl
theorem q2135 : (Jvm.Cond.instanceMethod ({ cls := "SecretBuyersModel", name := "sway", desc := "(II)I" } : Jvm.MethodName)) ∈ lw_all := lw_g (lw_at lw_m9 122 rfl) rfl
theorem q2136 : (Jvm.Cond.selects "SecretBuyersModel" ({ cls := "SecretBuyersModel", name := "sway", desc := "(II)I" } : Jvm.MethodName) ({ cls := "SecretBuyersModel", name := "sway", desc := "(II)I" } : Jvm.MethodName)) ∈ lw_all := lw_g (lw_at lw_m9 123 rfl) rfl
theorem q2137 : (Jvm.Cond.code ({ cls := "SecretBuyersModel", name := "sway", desc := "(II)I" } : Jvm.MethodName) prog_21_method_91_code (8 : Nat) (Option.some Jvm.ClassFile.FieldType.int)) ∈ lw_all := lw_g (lw_at lw_m9 124 rfl) rfl
theorem q2139 : (Jvm.Cond.instanceMethod ({ cls := "SecretBuyersModel", name := "sum", desc := "(IIII)I" } : Jvm.MethodName)) ∈ lw_all := lw_g (lw_at lw_m9 126 rfl) rfl
theorem q2140 : (Jvm.Cond.selects "SecretBuyersModel" ({ cls := "SecretBuyersModel", name := "sum", desc := "(IIII)I" } : Jvm.MethodName) ({ cls := "SecretBuyersModel", name := "sum", desc := "(IIII)I" } : Jvm.MethodName)) ∈ lw_all := lw_g (lw_at lw_m9 127 rfl) rfl
theorem q2141 : (Jvm.Cond.code ({ cls := "SecretBuyersModel", name := "sum", desc := "(IIII)I" } : Jvm.MethodName) prog_21_method_92_code (7 : Nat) (Option.some Jvm.ClassFile.FieldType.int)) ∈ lw_all := lw_g (lw_at lw_m9 128 rfl) rfl
theorem q2143 : (Jvm.Cond.instanceMethod ({ cls := "SecretBuyersModel", name := "count", desc := "(I)I" } : Jvm.MethodName)) ∈ lw_all := lw_g (lw_at lw_m9 130 rfl) rfl
theorem q2144 : (Jvm.Cond.selects "SecretBuyersModel" ({ cls := "SecretBuyersModel", name := "count", desc := "(I)I" } : Jvm.MethodName) ({ cls := "SecretBuyersModel", name := "count", desc := "(I)I" } : Jvm.MethodName)) ∈ lw_all := lw_g (lw_at lw_m9 131 rfl) rfl
theorem q2145 : (Jvm.Cond.code ({ cls := "SecretBuyersModel", name := "count", desc := "(I)I" } : Jvm.MethodName) prog_21_method_93_code (4 : Nat) (Option.some Jvm.ClassFile.FieldType.int)) ∈ lw_all := lw_g (lw_at lw_m9 132 rfl) rfl
theorem q2172 : (Jvm.Cond.castable "SecretBuyersModel" "java/lang/Object") ∈ lw_tbl := lw_at lw_m9 159 rfl
theorem in_X4 : ∀ w ∈ wsX40, w ∈ lw_all := lw_in wsX40 [1630, 1632, 1634, 1636, 1638, 1640, 1642, 1644, 1646, 1648, 1650, 1652, 1654, 1656, 1658, 1660, 1662, 1664, 1666, 1668, 1670, 1672, 1674, 1676, 1678, 1680, 1682, 1684, 1686, 1688, 1690, 1692, 1694, 1696, 1698, 1700, 1702, 1704, 1706, 1708, 1710, 1712, 1714, 1716, 1718, 1720, 1722, 1724, 1726, 1728, 1730, 1732, 1734, 1736, 1738, 1740, 1742, 1744, 1746, 1748, 1750, 1752, 1754, 1756, 1758, 1760, 1762, 1764, 1766, 1768, 1770, 1772, 1774, 1776, 1778, 1780, 1782, 1784, 1786, 1788, 1790] (by decide +kernel) (by decide +kernel)
