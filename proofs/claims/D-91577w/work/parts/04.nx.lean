/-! SecretBuyers -/
set_option maxRecDepth 100000
def RX1 : String := "SecretBuyers"
def TX1 : u_T := fun k => match k with
  | 0 => ("SecretBuyers", "now", "I", false)
  | 1 => ("SecretBuyers", "viewed", "I", false)
  | 2 => ("SecretBuyers", "taped", "I", false)
  | 3 => ("SecretBuyers", "pace", "I", false)
  | 4 => ("SecretBuyers", "fee", "I", false)
  | 5 => ("SecretBuyers", "spread", "I", false)
  | 6 => ("SecretBuyers", "rest", "I", false)
  | 7 => ("SecretBuyers", "reach", "I", false)
  | 8 => ("SecretBuyers", "shops", "Ljava/util/ArrayList;", true)
  | 9 => ("SecretBuyers", "buyers", "Ljava/util/ArrayList;", true)
  | 10 => ("SecretBuyers", "visits", "Ljava/util/ArrayList;", true)
  | 11 => ("SecretBuyers", "appeals", "Ljava/util/ArrayList;", true)
  | 12 => ("SecretBuyers", "briefs", "Ljava/util/ArrayList;", true)
  | 13 => ("SecretBuyers", "tape", "[B", true)
  | 14 => ("SecretBuyers", "reader", "LSecretBuyers$Reader;", true)
  | 15 => ("SecretBuyers", "ask", "LSecretBuyers$Ask;", true)
  | 16 => ("SecretBuyers", "isOld", "Z", false)
  | 17 => ("SecretBuyers", "seen", "Ljava/util/ArrayList;", true)
  | 18 => ("SecretBuyers", "lean", "[I", true)
  | 19 => ("SecretBuyers", "met", "[I", true)
  | 20 => ("SecretBuyers", "some", "[LSecretBuyers$Visit;", true)
  | 21 => ("SecretBuyers", "against", "[I", true)
  | 22 => ("SecretBuyers", "many", "I", false)
  | 23 => ("SecretBuyers", "theSet", "I", false)
  | 24 => ("SecretBuyers", "of", "I", false)
  | 25 => ("SecretBuyers", "rows", "[I", true)
  | 26 => ("SecretBuyers", "least", "[[I", true)
  | 27 => ("SecretBuyers", "wanted", "[LSecretBuyers$Shop;", true)
  | _ => ("SecretBuyers", "power", "[I", true)
def tyX1 : Nat → FieldType := fun k => match k with
  | 0 => .int
  | 1 => .int
  | 2 => .int
  | 3 => .int
  | 4 => .int
  | 5 => .int
  | 6 => .int
  | 7 => .int
  | 8 => .object "java/util/ArrayList"
  | 9 => .object "java/util/ArrayList"
  | 10 => .object "java/util/ArrayList"
  | 11 => .object "java/util/ArrayList"
  | 12 => .object "java/util/ArrayList"
  | 13 => .array .byte
  | 14 => .object "SecretBuyers$Reader"
  | 15 => .object "SecretBuyers$Ask"
  | 16 => .boolean
  | 17 => .object "java/util/ArrayList"
  | 18 => .array .int
  | 19 => .array .int
  | 20 => .array (.object "SecretBuyers$Visit")
  | 21 => .array .int
  | 22 => .int
  | 23 => .int
  | 24 => .int
  | 25 => .array .int
  | 26 => .array (.array .int)
  | 27 => .array (.object "SecretBuyers$Shop")
  | _ => .array .int
abbrev wsX10 : List Cond := u_ws RX1 TX1 29
set_option maxRecDepth 100000 in
theorem nmX1 : ∀ a, a < 29 → ∀ b, b < 29 → a ≠ b → (TX1 a).2.1 ≠ (TX1 b).2.1 := by decide +kernel
set_option maxRecDepth 100000 in
theorem tyX1_ok : ∀ k, k < 29 → parseFieldDescriptor (TX1 k).2.2.1 = some (tyX1 k) := by decide +kernel
abbrev cX1_init : ByteArray := prog_1_method_2_code
def yX1_init : MethodName := ⟨RX1, "<init>", "()V"⟩
def dkwX1_init_9 : List UInt8 := [181, 0, 100, 42, 16, 9, 188, 10, 181, 0, 104, 177]
abbrev dktX1_init_9 : List UInt8 := dkwX1_init_9 ++ []
def dkwX1_init_8 : List UInt8 := [181, 0, 90, 42, 16, 9, 17, 25, 161, 197, 0, 93, 2, 181, 0, 95, 42, 16, 8, 189, 0, 98]
abbrev dktX1_init_8 : List UInt8 := dkwX1_init_8 ++ dktX1_init_9
def dkwX1_init_7 : List UInt8 := [42, 16, 12, 189, 0, 81, 181, 0, 83, 42, 16, 12, 188, 10, 181, 0, 87, 42, 16, 20, 188, 10]
abbrev dktX1_init_7 : List UInt8 := dkwX1_init_7 ++ dktX1_init_8
def dkwX1_init_6 : List UInt8 := [16, 8, 183, 0, 30, 181, 0, 71, 42, 16, 8, 188, 10, 181, 0, 74, 42, 16, 8, 188, 10, 181, 0, 78]
abbrev dktX1_init_6 : List UInt8 := dkwX1_init_6 ++ dktX1_init_7
def dkwX1_init_5 : List UInt8 := [181, 0, 56, 42, 187, 0, 60, 89, 183, 0, 62, 181, 0, 63, 42, 4, 181, 0, 67, 42, 187, 0, 28, 89]
abbrev dktX1_init_5 : List UInt8 := dkwX1_init_5 ++ dktX1_init_6
def dkwX1_init_4 : List UInt8 := [183, 0, 30, 181, 0, 46, 42, 17, 3, 232, 188, 8, 181, 0, 49, 42, 187, 0, 53, 89, 183, 0, 55]
abbrev dktX1_init_4 : List UInt8 := dkwX1_init_4 ++ dktX1_init_5
def dkwX1_init_3 : List UInt8 := [183, 0, 30, 181, 0, 40, 42, 187, 0, 28, 89, 5, 183, 0, 30, 181, 0, 43, 42, 187, 0, 28, 89, 5]
abbrev dktX1_init_3 : List UInt8 := dkwX1_init_3 ++ dktX1_init_4
def dkwX1_init_2 : List UInt8 := [181, 0, 33, 42, 187, 0, 28, 89, 7, 183, 0, 30, 181, 0, 37, 42, 187, 0, 28, 89, 16, 8]
abbrev dktX1_init_2 : List UInt8 := dkwX1_init_2 ++ dktX1_init_3
def dkwX1_init_1 : List UInt8 := [181, 0, 19, 42, 16, 30, 181, 0, 22, 42, 16, 60, 181, 0, 25, 42, 187, 0, 28, 89, 7, 183, 0, 30]
abbrev dktX1_init_1 : List UInt8 := dkwX1_init_1 ++ dktX1_init_2
def dkwX1_init_0 : List UInt8 := [42, 183, 0, 1, 42, 2, 181, 0, 9, 42, 8, 181, 0, 13, 42, 16, 20, 181, 0, 16, 42, 16, 60]
abbrev dktX1_init_0 : List UInt8 := dkwX1_init_0 ++ dktX1_init_1
theorem dksX1_init_0 : cX1_init.data.toList.drop 0 = dktX1_init_0 := by decide +kernel
theorem dksX1_init_1 : cX1_init.data.toList.drop 23 = dktX1_init_1 := dk_seg dksX1_init_0 23 rfl rfl
theorem dksX1_init_2 : cX1_init.data.toList.drop 47 = dktX1_init_2 := dk_seg dksX1_init_1 24 rfl rfl
theorem dksX1_init_3 : cX1_init.data.toList.drop 69 = dktX1_init_3 := dk_seg dksX1_init_2 22 rfl rfl
theorem dksX1_init_4 : cX1_init.data.toList.drop 93 = dktX1_init_4 := dk_seg dksX1_init_3 24 rfl rfl
theorem dksX1_init_5 : cX1_init.data.toList.drop 116 = dktX1_init_5 := dk_seg dksX1_init_4 23 rfl rfl
theorem dksX1_init_6 : cX1_init.data.toList.drop 140 = dktX1_init_6 := dk_seg dksX1_init_5 24 rfl rfl
theorem dksX1_init_7 : cX1_init.data.toList.drop 164 = dktX1_init_7 := dk_seg dksX1_init_6 24 rfl rfl
theorem dksX1_init_8 : cX1_init.data.toList.drop 186 = dktX1_init_8 := dk_seg dksX1_init_7 22 rfl rfl
theorem dksX1_init_9 : cX1_init.data.toList.drop 208 = dktX1_init_9 := dk_seg dksX1_init_8 22 rfl rfl
theorem dX1_init_0 : decode cX1_init 0 = .ok (.aload_n 0, 1) := dk_42 (dk_at dksX1_init_0 0 rfl rfl)
theorem dX1_init_1 : decode cX1_init 1 = .ok (.invokespecial 1, 3) := dk_183 0 1 (dk_at dksX1_init_0 1 rfl rfl)
theorem dX1_init_4 : decode cX1_init 4 = .ok (.aload_n 0, 1) := dk_42 (dk_at dksX1_init_0 4 rfl rfl)
theorem dX1_init_5 : decode cX1_init 5 = .ok (.iconst (-1), 1) := dk_2 (dk_at dksX1_init_0 5 rfl rfl)
theorem dX1_init_6 : decode cX1_init 6 = .ok (.putfield 9, 3) := dk_181 0 9 (dk_at dksX1_init_0 6 rfl rfl)
theorem dX1_init_9 : decode cX1_init 9 = .ok (.aload_n 0, 1) := dk_42 (dk_at dksX1_init_0 9 rfl rfl)
theorem dX1_init_10 : decode cX1_init 10 = .ok (.iconst 5, 1) := dk_8 (dk_at dksX1_init_0 10 rfl rfl)
theorem dX1_init_11 : decode cX1_init 11 = .ok (.putfield 13, 3) := dk_181 0 13 (dk_at dksX1_init_0 11 rfl rfl)
theorem dX1_init_14 : decode cX1_init 14 = .ok (.aload_n 0, 1) := dk_42 (dk_at dksX1_init_0 14 rfl rfl)
theorem dX1_init_15 : decode cX1_init 15 = .ok (.bipush 20, 2) := dk_16 20 (dk_at dksX1_init_0 15 rfl rfl)
theorem dX1_init_17 : decode cX1_init 17 = .ok (.putfield 16, 3) := dk_181 0 16 (dk_at dksX1_init_0 17 rfl rfl)
theorem dX1_init_20 : decode cX1_init 20 = .ok (.aload_n 0, 1) := dk_42 (dk_at dksX1_init_0 20 rfl rfl)
theorem dX1_init_21 : decode cX1_init 21 = .ok (.bipush 60, 2) := dk_16 60 (dk_at dksX1_init_0 21 rfl rfl)
theorem dX1_init_23 : decode cX1_init 23 = .ok (.putfield 19, 3) := dk_181 0 19 (dk_at dksX1_init_1 0 rfl rfl)
theorem dX1_init_26 : decode cX1_init 26 = .ok (.aload_n 0, 1) := dk_42 (dk_at dksX1_init_1 3 rfl rfl)
theorem dX1_init_27 : decode cX1_init 27 = .ok (.bipush 30, 2) := dk_16 30 (dk_at dksX1_init_1 4 rfl rfl)
theorem dX1_init_29 : decode cX1_init 29 = .ok (.putfield 22, 3) := dk_181 0 22 (dk_at dksX1_init_1 6 rfl rfl)
theorem dX1_init_32 : decode cX1_init 32 = .ok (.aload_n 0, 1) := dk_42 (dk_at dksX1_init_1 9 rfl rfl)
theorem dX1_init_33 : decode cX1_init 33 = .ok (.bipush 60, 2) := dk_16 60 (dk_at dksX1_init_1 10 rfl rfl)
theorem dX1_init_35 : decode cX1_init 35 = .ok (.putfield 25, 3) := dk_181 0 25 (dk_at dksX1_init_1 12 rfl rfl)
theorem dX1_init_38 : decode cX1_init 38 = .ok (.aload_n 0, 1) := dk_42 (dk_at dksX1_init_1 15 rfl rfl)
theorem dX1_init_39 : decode cX1_init 39 = .ok (.new 28, 3) := dk_187 0 28 (dk_at dksX1_init_1 16 rfl rfl)
theorem dX1_init_42 : decode cX1_init 42 = .ok (.dup, 1) := dk_89 (dk_at dksX1_init_1 19 rfl rfl)
theorem dX1_init_43 : decode cX1_init 43 = .ok (.iconst 4, 1) := dk_7 (dk_at dksX1_init_1 20 rfl rfl)
theorem dX1_init_44 : decode cX1_init 44 = .ok (.invokespecial 30, 3) := dk_183 0 30 (dk_at dksX1_init_1 21 rfl rfl)
theorem dX1_init_47 : decode cX1_init 47 = .ok (.putfield 33, 3) := dk_181 0 33 (dk_at dksX1_init_2 0 rfl rfl)
theorem dX1_init_50 : decode cX1_init 50 = .ok (.aload_n 0, 1) := dk_42 (dk_at dksX1_init_2 3 rfl rfl)
theorem dX1_init_51 : decode cX1_init 51 = .ok (.new 28, 3) := dk_187 0 28 (dk_at dksX1_init_2 4 rfl rfl)
theorem dX1_init_54 : decode cX1_init 54 = .ok (.dup, 1) := dk_89 (dk_at dksX1_init_2 7 rfl rfl)
theorem dX1_init_55 : decode cX1_init 55 = .ok (.iconst 4, 1) := dk_7 (dk_at dksX1_init_2 8 rfl rfl)
theorem dX1_init_56 : decode cX1_init 56 = .ok (.invokespecial 30, 3) := dk_183 0 30 (dk_at dksX1_init_2 9 rfl rfl)
theorem dX1_init_59 : decode cX1_init 59 = .ok (.putfield 37, 3) := dk_181 0 37 (dk_at dksX1_init_2 12 rfl rfl)
theorem dX1_init_62 : decode cX1_init 62 = .ok (.aload_n 0, 1) := dk_42 (dk_at dksX1_init_2 15 rfl rfl)
theorem dX1_init_63 : decode cX1_init 63 = .ok (.new 28, 3) := dk_187 0 28 (dk_at dksX1_init_2 16 rfl rfl)
theorem dX1_init_66 : decode cX1_init 66 = .ok (.dup, 1) := dk_89 (dk_at dksX1_init_2 19 rfl rfl)
theorem dX1_init_67 : decode cX1_init 67 = .ok (.bipush 8, 2) := dk_16 8 (dk_at dksX1_init_2 20 rfl rfl)
theorem dX1_init_69 : decode cX1_init 69 = .ok (.invokespecial 30, 3) := dk_183 0 30 (dk_at dksX1_init_3 0 rfl rfl)
theorem dX1_init_72 : decode cX1_init 72 = .ok (.putfield 40, 3) := dk_181 0 40 (dk_at dksX1_init_3 3 rfl rfl)
theorem dX1_init_75 : decode cX1_init 75 = .ok (.aload_n 0, 1) := dk_42 (dk_at dksX1_init_3 6 rfl rfl)
theorem dX1_init_76 : decode cX1_init 76 = .ok (.new 28, 3) := dk_187 0 28 (dk_at dksX1_init_3 7 rfl rfl)
theorem dX1_init_79 : decode cX1_init 79 = .ok (.dup, 1) := dk_89 (dk_at dksX1_init_3 10 rfl rfl)
theorem dX1_init_80 : decode cX1_init 80 = .ok (.iconst 2, 1) := dk_5 (dk_at dksX1_init_3 11 rfl rfl)
theorem dX1_init_81 : decode cX1_init 81 = .ok (.invokespecial 30, 3) := dk_183 0 30 (dk_at dksX1_init_3 12 rfl rfl)
theorem dX1_init_84 : decode cX1_init 84 = .ok (.putfield 43, 3) := dk_181 0 43 (dk_at dksX1_init_3 15 rfl rfl)
theorem dX1_init_87 : decode cX1_init 87 = .ok (.aload_n 0, 1) := dk_42 (dk_at dksX1_init_3 18 rfl rfl)
theorem dX1_init_88 : decode cX1_init 88 = .ok (.new 28, 3) := dk_187 0 28 (dk_at dksX1_init_3 19 rfl rfl)
theorem dX1_init_91 : decode cX1_init 91 = .ok (.dup, 1) := dk_89 (dk_at dksX1_init_3 22 rfl rfl)
theorem dX1_init_92 : decode cX1_init 92 = .ok (.iconst 2, 1) := dk_5 (dk_at dksX1_init_3 23 rfl rfl)
theorem dX1_init_93 : decode cX1_init 93 = .ok (.invokespecial 30, 3) := dk_183 0 30 (dk_at dksX1_init_4 0 rfl rfl)
theorem dX1_init_96 : decode cX1_init 96 = .ok (.putfield 46, 3) := dk_181 0 46 (dk_at dksX1_init_4 3 rfl rfl)
theorem dX1_init_99 : decode cX1_init 99 = .ok (.aload_n 0, 1) := dk_42 (dk_at dksX1_init_4 6 rfl rfl)
theorem dX1_init_100 : decode cX1_init 100 = .ok (.sipush 1000, 3) := dk_17 3 232 (dk_at dksX1_init_4 7 rfl rfl)
theorem dX1_init_103 : decode cX1_init 103 = .ok (.newarray .byte, 2) := dk_188_8 (dk_at dksX1_init_4 10 rfl rfl)
theorem dX1_init_105 : decode cX1_init 105 = .ok (.putfield 49, 3) := dk_181 0 49 (dk_at dksX1_init_4 12 rfl rfl)
theorem dX1_init_108 : decode cX1_init 108 = .ok (.aload_n 0, 1) := dk_42 (dk_at dksX1_init_4 15 rfl rfl)
theorem dX1_init_109 : decode cX1_init 109 = .ok (.new 53, 3) := dk_187 0 53 (dk_at dksX1_init_4 16 rfl rfl)
theorem dX1_init_112 : decode cX1_init 112 = .ok (.dup, 1) := dk_89 (dk_at dksX1_init_4 19 rfl rfl)
theorem dX1_init_113 : decode cX1_init 113 = .ok (.invokespecial 55, 3) := dk_183 0 55 (dk_at dksX1_init_4 20 rfl rfl)
theorem dX1_init_116 : decode cX1_init 116 = .ok (.putfield 56, 3) := dk_181 0 56 (dk_at dksX1_init_5 0 rfl rfl)
theorem dX1_init_119 : decode cX1_init 119 = .ok (.aload_n 0, 1) := dk_42 (dk_at dksX1_init_5 3 rfl rfl)
theorem dX1_init_120 : decode cX1_init 120 = .ok (.new 60, 3) := dk_187 0 60 (dk_at dksX1_init_5 4 rfl rfl)
theorem dX1_init_123 : decode cX1_init 123 = .ok (.dup, 1) := dk_89 (dk_at dksX1_init_5 7 rfl rfl)
theorem dX1_init_124 : decode cX1_init 124 = .ok (.invokespecial 62, 3) := dk_183 0 62 (dk_at dksX1_init_5 8 rfl rfl)
theorem dX1_init_127 : decode cX1_init 127 = .ok (.putfield 63, 3) := dk_181 0 63 (dk_at dksX1_init_5 11 rfl rfl)
theorem dX1_init_130 : decode cX1_init 130 = .ok (.aload_n 0, 1) := dk_42 (dk_at dksX1_init_5 14 rfl rfl)
theorem dX1_init_131 : decode cX1_init 131 = .ok (.iconst 1, 1) := dk_4 (dk_at dksX1_init_5 15 rfl rfl)
theorem dX1_init_132 : decode cX1_init 132 = .ok (.putfield 67, 3) := dk_181 0 67 (dk_at dksX1_init_5 16 rfl rfl)
theorem dX1_init_135 : decode cX1_init 135 = .ok (.aload_n 0, 1) := dk_42 (dk_at dksX1_init_5 19 rfl rfl)
theorem dX1_init_136 : decode cX1_init 136 = .ok (.new 28, 3) := dk_187 0 28 (dk_at dksX1_init_5 20 rfl rfl)
theorem dX1_init_139 : decode cX1_init 139 = .ok (.dup, 1) := dk_89 (dk_at dksX1_init_5 23 rfl rfl)
theorem dX1_init_140 : decode cX1_init 140 = .ok (.bipush 8, 2) := dk_16 8 (dk_at dksX1_init_6 0 rfl rfl)
theorem dX1_init_142 : decode cX1_init 142 = .ok (.invokespecial 30, 3) := dk_183 0 30 (dk_at dksX1_init_6 2 rfl rfl)
theorem dX1_init_145 : decode cX1_init 145 = .ok (.putfield 71, 3) := dk_181 0 71 (dk_at dksX1_init_6 5 rfl rfl)
theorem dX1_init_148 : decode cX1_init 148 = .ok (.aload_n 0, 1) := dk_42 (dk_at dksX1_init_6 8 rfl rfl)
theorem dX1_init_149 : decode cX1_init 149 = .ok (.bipush 8, 2) := dk_16 8 (dk_at dksX1_init_6 9 rfl rfl)
theorem dX1_init_151 : decode cX1_init 151 = .ok (.newarray .int, 2) := dk_188_10 (dk_at dksX1_init_6 11 rfl rfl)
theorem dX1_init_153 : decode cX1_init 153 = .ok (.putfield 74, 3) := dk_181 0 74 (dk_at dksX1_init_6 13 rfl rfl)
theorem dX1_init_156 : decode cX1_init 156 = .ok (.aload_n 0, 1) := dk_42 (dk_at dksX1_init_6 16 rfl rfl)
theorem dX1_init_157 : decode cX1_init 157 = .ok (.bipush 8, 2) := dk_16 8 (dk_at dksX1_init_6 17 rfl rfl)
theorem dX1_init_159 : decode cX1_init 159 = .ok (.newarray .int, 2) := dk_188_10 (dk_at dksX1_init_6 19 rfl rfl)
theorem dX1_init_161 : decode cX1_init 161 = .ok (.putfield 78, 3) := dk_181 0 78 (dk_at dksX1_init_6 21 rfl rfl)
theorem dX1_init_164 : decode cX1_init 164 = .ok (.aload_n 0, 1) := dk_42 (dk_at dksX1_init_7 0 rfl rfl)
theorem dX1_init_165 : decode cX1_init 165 = .ok (.bipush 12, 2) := dk_16 12 (dk_at dksX1_init_7 1 rfl rfl)
theorem dX1_init_167 : decode cX1_init 167 = .ok (.anewarray 81, 3) := dk_189 0 81 (dk_at dksX1_init_7 3 rfl rfl)
theorem dX1_init_170 : decode cX1_init 170 = .ok (.putfield 83, 3) := dk_181 0 83 (dk_at dksX1_init_7 6 rfl rfl)
theorem dX1_init_173 : decode cX1_init 173 = .ok (.aload_n 0, 1) := dk_42 (dk_at dksX1_init_7 9 rfl rfl)
theorem dX1_init_174 : decode cX1_init 174 = .ok (.bipush 12, 2) := dk_16 12 (dk_at dksX1_init_7 10 rfl rfl)
theorem dX1_init_176 : decode cX1_init 176 = .ok (.newarray .int, 2) := dk_188_10 (dk_at dksX1_init_7 12 rfl rfl)
theorem dX1_init_178 : decode cX1_init 178 = .ok (.putfield 87, 3) := dk_181 0 87 (dk_at dksX1_init_7 14 rfl rfl)
theorem dX1_init_181 : decode cX1_init 181 = .ok (.aload_n 0, 1) := dk_42 (dk_at dksX1_init_7 17 rfl rfl)
theorem dX1_init_182 : decode cX1_init 182 = .ok (.bipush 20, 2) := dk_16 20 (dk_at dksX1_init_7 18 rfl rfl)
theorem dX1_init_184 : decode cX1_init 184 = .ok (.newarray .int, 2) := dk_188_10 (dk_at dksX1_init_7 20 rfl rfl)
theorem dX1_init_186 : decode cX1_init 186 = .ok (.putfield 90, 3) := dk_181 0 90 (dk_at dksX1_init_8 0 rfl rfl)
theorem dX1_init_189 : decode cX1_init 189 = .ok (.aload_n 0, 1) := dk_42 (dk_at dksX1_init_8 3 rfl rfl)
theorem dX1_init_190 : decode cX1_init 190 = .ok (.bipush 9, 2) := dk_16 9 (dk_at dksX1_init_8 4 rfl rfl)
theorem dX1_init_192 : decode cX1_init 192 = .ok (.sipush 6561, 3) := dk_17 25 161 (dk_at dksX1_init_8 6 rfl rfl)
theorem dX1_init_195 : decode cX1_init 195 = .ok (.multianewarray 93 2, 4) := by decide +kernel
theorem dX1_init_199 : decode cX1_init 199 = .ok (.putfield 95, 3) := dk_181 0 95 (dk_at dksX1_init_8 13 rfl rfl)
theorem dX1_init_202 : decode cX1_init 202 = .ok (.aload_n 0, 1) := dk_42 (dk_at dksX1_init_8 16 rfl rfl)
theorem dX1_init_203 : decode cX1_init 203 = .ok (.bipush 8, 2) := dk_16 8 (dk_at dksX1_init_8 17 rfl rfl)
theorem dX1_init_205 : decode cX1_init 205 = .ok (.anewarray 98, 3) := dk_189 0 98 (dk_at dksX1_init_8 19 rfl rfl)
theorem dX1_init_208 : decode cX1_init 208 = .ok (.putfield 100, 3) := dk_181 0 100 (dk_at dksX1_init_9 0 rfl rfl)
theorem dX1_init_211 : decode cX1_init 211 = .ok (.aload_n 0, 1) := dk_42 (dk_at dksX1_init_9 3 rfl rfl)
theorem dX1_init_212 : decode cX1_init 212 = .ok (.bipush 9, 2) := dk_16 9 (dk_at dksX1_init_9 4 rfl rfl)
theorem dX1_init_214 : decode cX1_init 214 = .ok (.newarray .int, 2) := dk_188_10 (dk_at dksX1_init_9 6 rfl rfl)
theorem dX1_init_216 : decode cX1_init 216 = .ok (.putfield 104, 3) := dk_181 0 104 (dk_at dksX1_init_9 8 rfl rfl)
theorem dX1_init_219 : decode cX1_init 219 = .ok (.return_, 1) := dk_177 (dk_at dksX1_init_9 11 rfl rfl)
abbrev cX1_days : ByteArray := prog_1_method_6_code
def yX1_days : MethodName := ⟨RX1, "days", "(I)I"⟩
def dkwX1_days_1 : List UInt8 := [172, 42, 89, 180, 0, 110, 27, 96, 181, 0, 110, 42, 182, 0, 117, 87, 42, 180, 0, 110, 172]
abbrev dktX1_days_1 : List UInt8 := dkwX1_days_1 ++ []
def dkwX1_days_0 : List UInt8 := [27, 3, 17, 3, 232, 184, 0, 113, 153, 0, 15, 42, 180, 0, 110, 27, 96, 17, 39, 15, 164, 0, 5, 2]
abbrev dktX1_days_0 : List UInt8 := dkwX1_days_0 ++ dktX1_days_1
theorem dksX1_days_0 : cX1_days.data.toList.drop 0 = dktX1_days_0 := by decide +kernel
theorem dksX1_days_1 : cX1_days.data.toList.drop 24 = dktX1_days_1 := dk_seg dksX1_days_0 24 rfl rfl
theorem dX1_days_0 : decode cX1_days 0 = .ok (.iload_n 1, 1) := dk_27 (dk_at dksX1_days_0 0 rfl rfl)
theorem dX1_days_1 : decode cX1_days 1 = .ok (.iconst 0, 1) := dk_3 (dk_at dksX1_days_0 1 rfl rfl)
theorem dX1_days_2 : decode cX1_days 2 = .ok (.sipush 1000, 3) := dk_17 3 232 (dk_at dksX1_days_0 2 rfl rfl)
theorem dX1_days_5 : decode cX1_days 5 = .ok (.invokestatic 113, 3) := dk_184 0 113 (dk_at dksX1_days_0 5 rfl rfl)
theorem dX1_days_8 : decode cX1_days 8 = .ok (.ifCond .eq 15, 3) := dk_153 0 15 (dk_at dksX1_days_0 8 rfl rfl)
theorem dX1_days_11 : decode cX1_days 11 = .ok (.aload_n 0, 1) := dk_42 (dk_at dksX1_days_0 11 rfl rfl)
theorem dX1_days_12 : decode cX1_days 12 = .ok (.getfield 110, 3) := dk_180 0 110 (dk_at dksX1_days_0 12 rfl rfl)
theorem dX1_days_15 : decode cX1_days 15 = .ok (.iload_n 1, 1) := dk_27 (dk_at dksX1_days_0 15 rfl rfl)
theorem dX1_days_16 : decode cX1_days 16 = .ok (.iadd, 1) := dk_96 (dk_at dksX1_days_0 16 rfl rfl)
theorem dX1_days_17 : decode cX1_days 17 = .ok (.sipush 9999, 3) := dk_17 39 15 (dk_at dksX1_days_0 17 rfl rfl)
theorem dX1_days_20 : decode cX1_days 20 = .ok (.if_icmp .le 5, 3) := dk_164 0 5 (dk_at dksX1_days_0 20 rfl rfl)
theorem dX1_days_23 : decode cX1_days 23 = .ok (.iconst (-1), 1) := dk_2 (dk_at dksX1_days_0 23 rfl rfl)
theorem dX1_days_24 : decode cX1_days 24 = .ok (.ireturn, 1) := dk_172 (dk_at dksX1_days_1 0 rfl rfl)
theorem dX1_days_25 : decode cX1_days 25 = .ok (.aload_n 0, 1) := dk_42 (dk_at dksX1_days_1 1 rfl rfl)
theorem dX1_days_26 : decode cX1_days 26 = .ok (.dup, 1) := dk_89 (dk_at dksX1_days_1 2 rfl rfl)
theorem dX1_days_27 : decode cX1_days 27 = .ok (.getfield 110, 3) := dk_180 0 110 (dk_at dksX1_days_1 3 rfl rfl)
theorem dX1_days_30 : decode cX1_days 30 = .ok (.iload_n 1, 1) := dk_27 (dk_at dksX1_days_1 6 rfl rfl)
theorem dX1_days_31 : decode cX1_days 31 = .ok (.iadd, 1) := dk_96 (dk_at dksX1_days_1 7 rfl rfl)
theorem dX1_days_32 : decode cX1_days 32 = .ok (.putfield 110, 3) := dk_181 0 110 (dk_at dksX1_days_1 8 rfl rfl)
theorem dX1_days_35 : decode cX1_days 35 = .ok (.aload_n 0, 1) := dk_42 (dk_at dksX1_days_1 11 rfl rfl)
theorem dX1_days_36 : decode cX1_days 36 = .ok (.invokevirtual 117, 3) := dk_182 0 117 (dk_at dksX1_days_1 12 rfl rfl)
theorem dX1_days_39 : decode cX1_days 39 = .ok (.pop, 1) := dk_87 (dk_at dksX1_days_1 15 rfl rfl)
theorem dX1_days_40 : decode cX1_days 40 = .ok (.aload_n 0, 1) := dk_42 (dk_at dksX1_days_1 16 rfl rfl)
theorem dX1_days_41 : decode cX1_days 41 = .ok (.getfield 110, 3) := dk_180 0 110 (dk_at dksX1_days_1 17 rfl rfl)
theorem dX1_days_44 : decode cX1_days 44 = .ok (.ireturn, 1) := dk_172 (dk_at dksX1_days_1 20 rfl rfl)
abbrev cX1_in : ByteArray := prog_1_method_1_code
def yX1_in : MethodName := ⟨RX1, "in", "(III)Z"⟩
def dkwX1_in_0 : List UInt8 := [26, 27, 161, 0, 12, 26, 28, 163, 0, 7, 4, 167, 0, 4, 3, 172]
abbrev dktX1_in_0 : List UInt8 := dkwX1_in_0 ++ []
theorem dksX1_in_0 : cX1_in.data.toList.drop 0 = dktX1_in_0 := by decide +kernel
theorem dX1_in_0 : decode cX1_in 0 = .ok (.iload_n 0, 1) := dk_26 (dk_at dksX1_in_0 0 rfl rfl)
theorem dX1_in_1 : decode cX1_in 1 = .ok (.iload_n 1, 1) := dk_27 (dk_at dksX1_in_0 1 rfl rfl)
theorem dX1_in_2 : decode cX1_in 2 = .ok (.if_icmp .lt 12, 3) := dk_161 0 12 (dk_at dksX1_in_0 2 rfl rfl)
theorem dX1_in_5 : decode cX1_in 5 = .ok (.iload_n 0, 1) := dk_26 (dk_at dksX1_in_0 5 rfl rfl)
theorem dX1_in_6 : decode cX1_in 6 = .ok (.iload_n 2, 1) := dk_28 (dk_at dksX1_in_0 6 rfl rfl)
theorem dX1_in_7 : decode cX1_in 7 = .ok (.if_icmp .gt 7, 3) := dk_163 0 7 (dk_at dksX1_in_0 7 rfl rfl)
theorem dX1_in_10 : decode cX1_in 10 = .ok (.iconst 1, 1) := dk_4 (dk_at dksX1_in_0 10 rfl rfl)
theorem dX1_in_11 : decode cX1_in 11 = .ok (.goto 4, 3) := dk_167 0 4 (dk_at dksX1_in_0 11 rfl rfl)
theorem dX1_in_14 : decode cX1_in 14 = .ok (.iconst 0, 1) := dk_3 (dk_at dksX1_in_0 14 rfl rfl)
theorem dX1_in_15 : decode cX1_in 15 = .ok (.ireturn, 1) := dk_172 (dk_at dksX1_in_0 15 rfl rfl)
abbrev cX1_changed : ByteArray := prog_1_method_5_code
def yX1_changed : MethodName := ⟨RX1, "changed", "()Z"⟩
def dkwX1_changed_0 : List UInt8 := [42, 4, 181, 0, 67, 4, 172]
abbrev dktX1_changed_0 : List UInt8 := dkwX1_changed_0 ++ []
theorem dksX1_changed_0 : cX1_changed.data.toList.drop 0 = dktX1_changed_0 := by decide +kernel
theorem dX1_changed_0 : decode cX1_changed 0 = .ok (.aload_n 0, 1) := dk_42 (dk_at dksX1_changed_0 0 rfl rfl)
theorem dX1_changed_1 : decode cX1_changed 1 = .ok (.iconst 1, 1) := dk_4 (dk_at dksX1_changed_0 1 rfl rfl)
theorem dX1_changed_2 : decode cX1_changed 2 = .ok (.putfield 67, 3) := dk_181 0 67 (dk_at dksX1_changed_0 2 rfl rfl)
theorem dX1_changed_5 : decode cX1_changed 5 = .ok (.iconst 1, 1) := dk_4 (dk_at dksX1_changed_0 5 rfl rfl)
theorem dX1_changed_6 : decode cX1_changed 6 = .ok (.ireturn, 1) := dk_172 (dk_at dksX1_changed_0 6 rfl rfl)
abbrev cX1_view : ByteArray := prog_1_method_7_code
def yX1_view : MethodName := ⟨RX1, "view", "(I)Z"⟩
def dkwX1_view_1 : List UInt8 := [167, 0, 4, 27, 181, 0, 9, 42, 182, 0, 117, 172]
abbrev dktX1_view_1 : List UInt8 := dkwX1_view_1 ++ []
def dkwX1_view_0 : List UInt8 := [27, 3, 42, 180, 0, 110, 184, 0, 113, 154, 0, 5, 3, 172, 42, 27, 42, 180, 0, 110, 160, 0, 7, 2]
abbrev dktX1_view_0 : List UInt8 := dkwX1_view_0 ++ dktX1_view_1
theorem dksX1_view_0 : cX1_view.data.toList.drop 0 = dktX1_view_0 := by decide +kernel
theorem dksX1_view_1 : cX1_view.data.toList.drop 24 = dktX1_view_1 := dk_seg dksX1_view_0 24 rfl rfl
theorem dX1_view_0 : decode cX1_view 0 = .ok (.iload_n 1, 1) := dk_27 (dk_at dksX1_view_0 0 rfl rfl)
theorem dX1_view_1 : decode cX1_view 1 = .ok (.iconst 0, 1) := dk_3 (dk_at dksX1_view_0 1 rfl rfl)
theorem dX1_view_2 : decode cX1_view 2 = .ok (.aload_n 0, 1) := dk_42 (dk_at dksX1_view_0 2 rfl rfl)
theorem dX1_view_3 : decode cX1_view 3 = .ok (.getfield 110, 3) := dk_180 0 110 (dk_at dksX1_view_0 3 rfl rfl)
theorem dX1_view_6 : decode cX1_view 6 = .ok (.invokestatic 113, 3) := dk_184 0 113 (dk_at dksX1_view_0 6 rfl rfl)
theorem dX1_view_9 : decode cX1_view 9 = .ok (.ifCond .ne 5, 3) := dk_154 0 5 (dk_at dksX1_view_0 9 rfl rfl)
theorem dX1_view_12 : decode cX1_view 12 = .ok (.iconst 0, 1) := dk_3 (dk_at dksX1_view_0 12 rfl rfl)
theorem dX1_view_13 : decode cX1_view 13 = .ok (.ireturn, 1) := dk_172 (dk_at dksX1_view_0 13 rfl rfl)
theorem dX1_view_14 : decode cX1_view 14 = .ok (.aload_n 0, 1) := dk_42 (dk_at dksX1_view_0 14 rfl rfl)
theorem dX1_view_15 : decode cX1_view 15 = .ok (.iload_n 1, 1) := dk_27 (dk_at dksX1_view_0 15 rfl rfl)
theorem dX1_view_16 : decode cX1_view 16 = .ok (.aload_n 0, 1) := dk_42 (dk_at dksX1_view_0 16 rfl rfl)
theorem dX1_view_17 : decode cX1_view 17 = .ok (.getfield 110, 3) := dk_180 0 110 (dk_at dksX1_view_0 17 rfl rfl)
theorem dX1_view_20 : decode cX1_view 20 = .ok (.if_icmp .ne 7, 3) := dk_160 0 7 (dk_at dksX1_view_0 20 rfl rfl)
theorem dX1_view_23 : decode cX1_view 23 = .ok (.iconst (-1), 1) := dk_2 (dk_at dksX1_view_0 23 rfl rfl)
theorem dX1_view_24 : decode cX1_view 24 = .ok (.goto 4, 3) := dk_167 0 4 (dk_at dksX1_view_1 0 rfl rfl)
theorem dX1_view_27 : decode cX1_view 27 = .ok (.iload_n 1, 1) := dk_27 (dk_at dksX1_view_1 3 rfl rfl)
theorem dX1_view_28 : decode cX1_view 28 = .ok (.putfield 9, 3) := dk_181 0 9 (dk_at dksX1_view_1 4 rfl rfl)
theorem dX1_view_31 : decode cX1_view 31 = .ok (.aload_n 0, 1) := dk_42 (dk_at dksX1_view_1 7 rfl rfl)
theorem dX1_view_32 : decode cX1_view 32 = .ok (.invokevirtual 117, 3) := dk_182 0 117 (dk_at dksX1_view_1 8 rfl rfl)
theorem dX1_view_35 : decode cX1_view 35 = .ok (.ireturn, 1) := dk_172 (dk_at dksX1_view_1 11 rfl rfl)
abbrev cX1_shop : ByteArray := prog_1_method_8_code
def yX1_shop : MethodName := ⟨RX1, "shop", "(IIIIIZ)I"⟩
def dkwX1_shop_4 : List UInt8 := [21, 4, 21, 5, 21, 6, 183, 0, 130, 182, 0, 133, 87, 42, 180, 0, 33, 182, 0, 121, 4, 100, 172]
abbrev dktX1_shop_4 : List UInt8 := dkwX1_shop_4 ++ []
def dkwX1_shop_3 : List UInt8 := [180, 0, 33, 187, 0, 98, 89, 42, 180, 0, 33, 182, 0, 121, 187, 0, 125, 89, 27, 28, 183, 0, 127, 29]
abbrev dktX1_shop_3 : List UInt8 := dkwX1_shop_3 ++ dktX1_shop_4
def dkwX1_shop_2 : List UInt8 := [17, 5, 159, 184, 0, 113, 153, 0, 15, 42, 180, 0, 33, 182, 0, 121, 16, 20, 160, 0, 5, 2, 172, 42]
abbrev dktX1_shop_2 : List UInt8 := dkwX1_shop_2 ++ dktX1_shop_3
def dkwX1_shop_1 : List UInt8 := [184, 0, 113, 153, 0, 40, 21, 4, 3, 17, 5, 159, 184, 0, 113, 153, 0, 28, 21, 5, 21, 4]
abbrev dktX1_shop_1 : List UInt8 := dkwX1_shop_1 ++ dktX1_shop_2
def dkwX1_shop_0 : List UInt8 := [27, 3, 16, 99, 184, 0, 113, 153, 0, 59, 28, 3, 16, 99, 184, 0, 113, 153, 0, 49, 29, 3, 6]
abbrev dktX1_shop_0 : List UInt8 := dkwX1_shop_0 ++ dktX1_shop_1
theorem dksX1_shop_0 : cX1_shop.data.toList.drop 0 = dktX1_shop_0 := by decide +kernel
theorem dksX1_shop_1 : cX1_shop.data.toList.drop 23 = dktX1_shop_1 := dk_seg dksX1_shop_0 23 rfl rfl
theorem dksX1_shop_2 : cX1_shop.data.toList.drop 45 = dktX1_shop_2 := dk_seg dksX1_shop_1 22 rfl rfl
theorem dksX1_shop_3 : cX1_shop.data.toList.drop 69 = dktX1_shop_3 := dk_seg dksX1_shop_2 24 rfl rfl
theorem dksX1_shop_4 : cX1_shop.data.toList.drop 93 = dktX1_shop_4 := dk_seg dksX1_shop_3 24 rfl rfl
theorem dX1_shop_0 : decode cX1_shop 0 = .ok (.iload_n 1, 1) := dk_27 (dk_at dksX1_shop_0 0 rfl rfl)
theorem dX1_shop_1 : decode cX1_shop 1 = .ok (.iconst 0, 1) := dk_3 (dk_at dksX1_shop_0 1 rfl rfl)
theorem dX1_shop_2 : decode cX1_shop 2 = .ok (.bipush 99, 2) := dk_16 99 (dk_at dksX1_shop_0 2 rfl rfl)
theorem dX1_shop_4 : decode cX1_shop 4 = .ok (.invokestatic 113, 3) := dk_184 0 113 (dk_at dksX1_shop_0 4 rfl rfl)
theorem dX1_shop_7 : decode cX1_shop 7 = .ok (.ifCond .eq 59, 3) := dk_153 0 59 (dk_at dksX1_shop_0 7 rfl rfl)
theorem dX1_shop_10 : decode cX1_shop 10 = .ok (.iload_n 2, 1) := dk_28 (dk_at dksX1_shop_0 10 rfl rfl)
theorem dX1_shop_11 : decode cX1_shop 11 = .ok (.iconst 0, 1) := dk_3 (dk_at dksX1_shop_0 11 rfl rfl)
theorem dX1_shop_12 : decode cX1_shop 12 = .ok (.bipush 99, 2) := dk_16 99 (dk_at dksX1_shop_0 12 rfl rfl)
theorem dX1_shop_14 : decode cX1_shop 14 = .ok (.invokestatic 113, 3) := dk_184 0 113 (dk_at dksX1_shop_0 14 rfl rfl)
theorem dX1_shop_17 : decode cX1_shop 17 = .ok (.ifCond .eq 49, 3) := dk_153 0 49 (dk_at dksX1_shop_0 17 rfl rfl)
theorem dX1_shop_20 : decode cX1_shop 20 = .ok (.iload_n 3, 1) := dk_29 (dk_at dksX1_shop_0 20 rfl rfl)
theorem dX1_shop_21 : decode cX1_shop 21 = .ok (.iconst 0, 1) := dk_3 (dk_at dksX1_shop_0 21 rfl rfl)
theorem dX1_shop_22 : decode cX1_shop 22 = .ok (.iconst 3, 1) := dk_6 (dk_at dksX1_shop_0 22 rfl rfl)
theorem dX1_shop_23 : decode cX1_shop 23 = .ok (.invokestatic 113, 3) := dk_184 0 113 (dk_at dksX1_shop_1 0 rfl rfl)
theorem dX1_shop_26 : decode cX1_shop 26 = .ok (.ifCond .eq 40, 3) := dk_153 0 40 (dk_at dksX1_shop_1 3 rfl rfl)
theorem dX1_shop_29 : decode cX1_shop 29 = .ok (.iload 4, 2) := dk_21 4 (dk_at dksX1_shop_1 6 rfl rfl)
theorem dX1_shop_31 : decode cX1_shop 31 = .ok (.iconst 0, 1) := dk_3 (dk_at dksX1_shop_1 8 rfl rfl)
theorem dX1_shop_32 : decode cX1_shop 32 = .ok (.sipush 1439, 3) := dk_17 5 159 (dk_at dksX1_shop_1 9 rfl rfl)
theorem dX1_shop_35 : decode cX1_shop 35 = .ok (.invokestatic 113, 3) := dk_184 0 113 (dk_at dksX1_shop_1 12 rfl rfl)
theorem dX1_shop_38 : decode cX1_shop 38 = .ok (.ifCond .eq 28, 3) := dk_153 0 28 (dk_at dksX1_shop_1 15 rfl rfl)
theorem dX1_shop_41 : decode cX1_shop 41 = .ok (.iload 5, 2) := dk_21 5 (dk_at dksX1_shop_1 18 rfl rfl)
theorem dX1_shop_43 : decode cX1_shop 43 = .ok (.iload 4, 2) := dk_21 4 (dk_at dksX1_shop_1 20 rfl rfl)
theorem dX1_shop_45 : decode cX1_shop 45 = .ok (.sipush 1439, 3) := dk_17 5 159 (dk_at dksX1_shop_2 0 rfl rfl)
theorem dX1_shop_48 : decode cX1_shop 48 = .ok (.invokestatic 113, 3) := dk_184 0 113 (dk_at dksX1_shop_2 3 rfl rfl)
theorem dX1_shop_51 : decode cX1_shop 51 = .ok (.ifCond .eq 15, 3) := dk_153 0 15 (dk_at dksX1_shop_2 6 rfl rfl)
theorem dX1_shop_54 : decode cX1_shop 54 = .ok (.aload_n 0, 1) := dk_42 (dk_at dksX1_shop_2 9 rfl rfl)
theorem dX1_shop_55 : decode cX1_shop 55 = .ok (.getfield 33, 3) := dk_180 0 33 (dk_at dksX1_shop_2 10 rfl rfl)
theorem dX1_shop_58 : decode cX1_shop 58 = .ok (.invokevirtual 121, 3) := dk_182 0 121 (dk_at dksX1_shop_2 13 rfl rfl)
theorem dX1_shop_61 : decode cX1_shop 61 = .ok (.bipush 20, 2) := dk_16 20 (dk_at dksX1_shop_2 16 rfl rfl)
theorem dX1_shop_63 : decode cX1_shop 63 = .ok (.if_icmp .ne 5, 3) := dk_160 0 5 (dk_at dksX1_shop_2 18 rfl rfl)
theorem dX1_shop_66 : decode cX1_shop 66 = .ok (.iconst (-1), 1) := dk_2 (dk_at dksX1_shop_2 21 rfl rfl)
theorem dX1_shop_67 : decode cX1_shop 67 = .ok (.ireturn, 1) := dk_172 (dk_at dksX1_shop_2 22 rfl rfl)
theorem dX1_shop_68 : decode cX1_shop 68 = .ok (.aload_n 0, 1) := dk_42 (dk_at dksX1_shop_2 23 rfl rfl)
theorem dX1_shop_69 : decode cX1_shop 69 = .ok (.getfield 33, 3) := dk_180 0 33 (dk_at dksX1_shop_3 0 rfl rfl)
theorem dX1_shop_72 : decode cX1_shop 72 = .ok (.new 98, 3) := dk_187 0 98 (dk_at dksX1_shop_3 3 rfl rfl)
theorem dX1_shop_75 : decode cX1_shop 75 = .ok (.dup, 1) := dk_89 (dk_at dksX1_shop_3 6 rfl rfl)
theorem dX1_shop_76 : decode cX1_shop 76 = .ok (.aload_n 0, 1) := dk_42 (dk_at dksX1_shop_3 7 rfl rfl)
theorem dX1_shop_77 : decode cX1_shop 77 = .ok (.getfield 33, 3) := dk_180 0 33 (dk_at dksX1_shop_3 8 rfl rfl)
theorem dX1_shop_80 : decode cX1_shop 80 = .ok (.invokevirtual 121, 3) := dk_182 0 121 (dk_at dksX1_shop_3 11 rfl rfl)
theorem dX1_shop_83 : decode cX1_shop 83 = .ok (.new 125, 3) := dk_187 0 125 (dk_at dksX1_shop_3 14 rfl rfl)
theorem dX1_shop_86 : decode cX1_shop 86 = .ok (.dup, 1) := dk_89 (dk_at dksX1_shop_3 17 rfl rfl)
theorem dX1_shop_87 : decode cX1_shop 87 = .ok (.iload_n 1, 1) := dk_27 (dk_at dksX1_shop_3 18 rfl rfl)
theorem dX1_shop_88 : decode cX1_shop 88 = .ok (.iload_n 2, 1) := dk_28 (dk_at dksX1_shop_3 19 rfl rfl)
theorem dX1_shop_89 : decode cX1_shop 89 = .ok (.invokespecial 127, 3) := dk_183 0 127 (dk_at dksX1_shop_3 20 rfl rfl)
theorem dX1_shop_92 : decode cX1_shop 92 = .ok (.iload_n 3, 1) := dk_29 (dk_at dksX1_shop_3 23 rfl rfl)
theorem dX1_shop_93 : decode cX1_shop 93 = .ok (.iload 4, 2) := dk_21 4 (dk_at dksX1_shop_4 0 rfl rfl)
theorem dX1_shop_95 : decode cX1_shop 95 = .ok (.iload 5, 2) := dk_21 5 (dk_at dksX1_shop_4 2 rfl rfl)
theorem dX1_shop_97 : decode cX1_shop 97 = .ok (.iload 6, 2) := dk_21 6 (dk_at dksX1_shop_4 4 rfl rfl)
theorem dX1_shop_99 : decode cX1_shop 99 = .ok (.invokespecial 130, 3) := dk_183 0 130 (dk_at dksX1_shop_4 6 rfl rfl)
theorem dX1_shop_102 : decode cX1_shop 102 = .ok (.invokevirtual 133, 3) := dk_182 0 133 (dk_at dksX1_shop_4 9 rfl rfl)
theorem dX1_shop_105 : decode cX1_shop 105 = .ok (.pop, 1) := dk_87 (dk_at dksX1_shop_4 12 rfl rfl)
theorem dX1_shop_106 : decode cX1_shop 106 = .ok (.aload_n 0, 1) := dk_42 (dk_at dksX1_shop_4 13 rfl rfl)
theorem dX1_shop_107 : decode cX1_shop 107 = .ok (.getfield 33, 3) := dk_180 0 33 (dk_at dksX1_shop_4 14 rfl rfl)
theorem dX1_shop_110 : decode cX1_shop 110 = .ok (.invokevirtual 121, 3) := dk_182 0 121 (dk_at dksX1_shop_4 17 rfl rfl)
theorem dX1_shop_113 : decode cX1_shop 113 = .ok (.iconst 1, 1) := dk_4 (dk_at dksX1_shop_4 20 rfl rfl)
theorem dX1_shop_114 : decode cX1_shop 114 = .ok (.isub, 1) := dk_100 (dk_at dksX1_shop_4 21 rfl rfl)
theorem dX1_shop_115 : decode cX1_shop 115 = .ok (.ireturn, 1) := dk_172 (dk_at dksX1_shop_4 22 rfl rfl)
abbrev cX1_buyer : ByteArray := prog_1_method_9_code
def yX1_buyer : MethodName := ⟨RX1, "buyer", "(II)I"⟩
def dkwX1_buyer_2 : List UInt8 := [182, 0, 133, 87, 42, 180, 0, 37, 182, 0, 121, 4, 100, 172]
abbrev dktX1_buyer_2 : List UInt8 := dkwX1_buyer_2 ++ []
def dkwX1_buyer_1 : List UInt8 := [182, 0, 121, 16, 8, 160, 0, 5, 2, 172, 42, 180, 0, 37, 187, 0, 125, 89, 27, 28, 183, 0, 127]
abbrev dktX1_buyer_1 : List UInt8 := dkwX1_buyer_1 ++ dktX1_buyer_2
def dkwX1_buyer_0 : List UInt8 := [27, 3, 16, 99, 184, 0, 113, 153, 0, 25, 28, 3, 16, 99, 184, 0, 113, 153, 0, 15, 42, 180, 0, 37]
abbrev dktX1_buyer_0 : List UInt8 := dkwX1_buyer_0 ++ dktX1_buyer_1
theorem dksX1_buyer_0 : cX1_buyer.data.toList.drop 0 = dktX1_buyer_0 := by decide +kernel
theorem dksX1_buyer_1 : cX1_buyer.data.toList.drop 24 = dktX1_buyer_1 := dk_seg dksX1_buyer_0 24 rfl rfl
theorem dksX1_buyer_2 : cX1_buyer.data.toList.drop 47 = dktX1_buyer_2 := dk_seg dksX1_buyer_1 23 rfl rfl
theorem dX1_buyer_0 : decode cX1_buyer 0 = .ok (.iload_n 1, 1) := dk_27 (dk_at dksX1_buyer_0 0 rfl rfl)
theorem dX1_buyer_1 : decode cX1_buyer 1 = .ok (.iconst 0, 1) := dk_3 (dk_at dksX1_buyer_0 1 rfl rfl)
theorem dX1_buyer_2 : decode cX1_buyer 2 = .ok (.bipush 99, 2) := dk_16 99 (dk_at dksX1_buyer_0 2 rfl rfl)
theorem dX1_buyer_4 : decode cX1_buyer 4 = .ok (.invokestatic 113, 3) := dk_184 0 113 (dk_at dksX1_buyer_0 4 rfl rfl)
theorem dX1_buyer_7 : decode cX1_buyer 7 = .ok (.ifCond .eq 25, 3) := dk_153 0 25 (dk_at dksX1_buyer_0 7 rfl rfl)
theorem dX1_buyer_10 : decode cX1_buyer 10 = .ok (.iload_n 2, 1) := dk_28 (dk_at dksX1_buyer_0 10 rfl rfl)
theorem dX1_buyer_11 : decode cX1_buyer 11 = .ok (.iconst 0, 1) := dk_3 (dk_at dksX1_buyer_0 11 rfl rfl)
theorem dX1_buyer_12 : decode cX1_buyer 12 = .ok (.bipush 99, 2) := dk_16 99 (dk_at dksX1_buyer_0 12 rfl rfl)
theorem dX1_buyer_14 : decode cX1_buyer 14 = .ok (.invokestatic 113, 3) := dk_184 0 113 (dk_at dksX1_buyer_0 14 rfl rfl)
theorem dX1_buyer_17 : decode cX1_buyer 17 = .ok (.ifCond .eq 15, 3) := dk_153 0 15 (dk_at dksX1_buyer_0 17 rfl rfl)
theorem dX1_buyer_20 : decode cX1_buyer 20 = .ok (.aload_n 0, 1) := dk_42 (dk_at dksX1_buyer_0 20 rfl rfl)
theorem dX1_buyer_21 : decode cX1_buyer 21 = .ok (.getfield 37, 3) := dk_180 0 37 (dk_at dksX1_buyer_0 21 rfl rfl)
theorem dX1_buyer_24 : decode cX1_buyer 24 = .ok (.invokevirtual 121, 3) := dk_182 0 121 (dk_at dksX1_buyer_1 0 rfl rfl)
theorem dX1_buyer_27 : decode cX1_buyer 27 = .ok (.bipush 8, 2) := dk_16 8 (dk_at dksX1_buyer_1 3 rfl rfl)
theorem dX1_buyer_29 : decode cX1_buyer 29 = .ok (.if_icmp .ne 5, 3) := dk_160 0 5 (dk_at dksX1_buyer_1 5 rfl rfl)
theorem dX1_buyer_32 : decode cX1_buyer 32 = .ok (.iconst (-1), 1) := dk_2 (dk_at dksX1_buyer_1 8 rfl rfl)
theorem dX1_buyer_33 : decode cX1_buyer 33 = .ok (.ireturn, 1) := dk_172 (dk_at dksX1_buyer_1 9 rfl rfl)
theorem dX1_buyer_34 : decode cX1_buyer 34 = .ok (.aload_n 0, 1) := dk_42 (dk_at dksX1_buyer_1 10 rfl rfl)
theorem dX1_buyer_35 : decode cX1_buyer 35 = .ok (.getfield 37, 3) := dk_180 0 37 (dk_at dksX1_buyer_1 11 rfl rfl)
theorem dX1_buyer_38 : decode cX1_buyer 38 = .ok (.new 125, 3) := dk_187 0 125 (dk_at dksX1_buyer_1 14 rfl rfl)
theorem dX1_buyer_41 : decode cX1_buyer 41 = .ok (.dup, 1) := dk_89 (dk_at dksX1_buyer_1 17 rfl rfl)
theorem dX1_buyer_42 : decode cX1_buyer 42 = .ok (.iload_n 1, 1) := dk_27 (dk_at dksX1_buyer_1 18 rfl rfl)
theorem dX1_buyer_43 : decode cX1_buyer 43 = .ok (.iload_n 2, 1) := dk_28 (dk_at dksX1_buyer_1 19 rfl rfl)
theorem dX1_buyer_44 : decode cX1_buyer 44 = .ok (.invokespecial 127, 3) := dk_183 0 127 (dk_at dksX1_buyer_1 20 rfl rfl)
theorem dX1_buyer_47 : decode cX1_buyer 47 = .ok (.invokevirtual 133, 3) := dk_182 0 133 (dk_at dksX1_buyer_2 0 rfl rfl)
theorem dX1_buyer_50 : decode cX1_buyer 50 = .ok (.pop, 1) := dk_87 (dk_at dksX1_buyer_2 3 rfl rfl)
theorem dX1_buyer_51 : decode cX1_buyer 51 = .ok (.aload_n 0, 1) := dk_42 (dk_at dksX1_buyer_2 4 rfl rfl)
theorem dX1_buyer_52 : decode cX1_buyer 52 = .ok (.getfield 37, 3) := dk_180 0 37 (dk_at dksX1_buyer_2 5 rfl rfl)
theorem dX1_buyer_55 : decode cX1_buyer 55 = .ok (.invokevirtual 121, 3) := dk_182 0 121 (dk_at dksX1_buyer_2 8 rfl rfl)
theorem dX1_buyer_58 : decode cX1_buyer 58 = .ok (.iconst 1, 1) := dk_4 (dk_at dksX1_buyer_2 11 rfl rfl)
theorem dX1_buyer_59 : decode cX1_buyer 59 = .ok (.isub, 1) := dk_100 (dk_at dksX1_buyer_2 12 rfl rfl)
theorem dX1_buyer_60 : decode cX1_buyer 60 = .ok (.ireturn, 1) := dk_172 (dk_at dksX1_buyer_2 13 rfl rfl)
abbrev cX1_terms : ByteArray := prog_1_method_10_code
def yX1_terms : MethodName := ⟨RX1, "terms", "(III)Z"⟩
def dkwX1_terms_2 : List UInt8 := [181, 0, 19, 42, 182, 0, 117, 172]
abbrev dktX1_terms_2 : List UInt8 := dkwX1_terms_2 ++ []
def dkwX1_terms_1 : List UInt8 := [17, 3, 232, 184, 0, 113, 154, 0, 5, 3, 172, 42, 27, 181, 0, 13, 42, 28, 181, 0, 16, 42, 29]
abbrev dktX1_terms_1 : List UInt8 := dkwX1_terms_1 ++ dktX1_terms_2
def dkwX1_terms_0 : List UInt8 := [27, 4, 16, 60, 184, 0, 113, 153, 0, 25, 28, 3, 17, 3, 231, 184, 0, 113, 153, 0, 14, 29, 3]
abbrev dktX1_terms_0 : List UInt8 := dkwX1_terms_0 ++ dktX1_terms_1
theorem dksX1_terms_0 : cX1_terms.data.toList.drop 0 = dktX1_terms_0 := by decide +kernel
theorem dksX1_terms_1 : cX1_terms.data.toList.drop 23 = dktX1_terms_1 := dk_seg dksX1_terms_0 23 rfl rfl
theorem dksX1_terms_2 : cX1_terms.data.toList.drop 46 = dktX1_terms_2 := dk_seg dksX1_terms_1 23 rfl rfl
theorem dX1_terms_0 : decode cX1_terms 0 = .ok (.iload_n 1, 1) := dk_27 (dk_at dksX1_terms_0 0 rfl rfl)
theorem dX1_terms_1 : decode cX1_terms 1 = .ok (.iconst 1, 1) := dk_4 (dk_at dksX1_terms_0 1 rfl rfl)
theorem dX1_terms_2 : decode cX1_terms 2 = .ok (.bipush 60, 2) := dk_16 60 (dk_at dksX1_terms_0 2 rfl rfl)
theorem dX1_terms_4 : decode cX1_terms 4 = .ok (.invokestatic 113, 3) := dk_184 0 113 (dk_at dksX1_terms_0 4 rfl rfl)
theorem dX1_terms_7 : decode cX1_terms 7 = .ok (.ifCond .eq 25, 3) := dk_153 0 25 (dk_at dksX1_terms_0 7 rfl rfl)
theorem dX1_terms_10 : decode cX1_terms 10 = .ok (.iload_n 2, 1) := dk_28 (dk_at dksX1_terms_0 10 rfl rfl)
theorem dX1_terms_11 : decode cX1_terms 11 = .ok (.iconst 0, 1) := dk_3 (dk_at dksX1_terms_0 11 rfl rfl)
theorem dX1_terms_12 : decode cX1_terms 12 = .ok (.sipush 999, 3) := dk_17 3 231 (dk_at dksX1_terms_0 12 rfl rfl)
theorem dX1_terms_15 : decode cX1_terms 15 = .ok (.invokestatic 113, 3) := dk_184 0 113 (dk_at dksX1_terms_0 15 rfl rfl)
theorem dX1_terms_18 : decode cX1_terms 18 = .ok (.ifCond .eq 14, 3) := dk_153 0 14 (dk_at dksX1_terms_0 18 rfl rfl)
theorem dX1_terms_21 : decode cX1_terms 21 = .ok (.iload_n 3, 1) := dk_29 (dk_at dksX1_terms_0 21 rfl rfl)
theorem dX1_terms_22 : decode cX1_terms 22 = .ok (.iconst 0, 1) := dk_3 (dk_at dksX1_terms_0 22 rfl rfl)
theorem dX1_terms_23 : decode cX1_terms 23 = .ok (.sipush 1000, 3) := dk_17 3 232 (dk_at dksX1_terms_1 0 rfl rfl)
theorem dX1_terms_26 : decode cX1_terms 26 = .ok (.invokestatic 113, 3) := dk_184 0 113 (dk_at dksX1_terms_1 3 rfl rfl)
theorem dX1_terms_29 : decode cX1_terms 29 = .ok (.ifCond .ne 5, 3) := dk_154 0 5 (dk_at dksX1_terms_1 6 rfl rfl)
theorem dX1_terms_32 : decode cX1_terms 32 = .ok (.iconst 0, 1) := dk_3 (dk_at dksX1_terms_1 9 rfl rfl)
theorem dX1_terms_33 : decode cX1_terms 33 = .ok (.ireturn, 1) := dk_172 (dk_at dksX1_terms_1 10 rfl rfl)
theorem dX1_terms_34 : decode cX1_terms 34 = .ok (.aload_n 0, 1) := dk_42 (dk_at dksX1_terms_1 11 rfl rfl)
theorem dX1_terms_35 : decode cX1_terms 35 = .ok (.iload_n 1, 1) := dk_27 (dk_at dksX1_terms_1 12 rfl rfl)
theorem dX1_terms_36 : decode cX1_terms 36 = .ok (.putfield 13, 3) := dk_181 0 13 (dk_at dksX1_terms_1 13 rfl rfl)
theorem dX1_terms_39 : decode cX1_terms 39 = .ok (.aload_n 0, 1) := dk_42 (dk_at dksX1_terms_1 16 rfl rfl)
theorem dX1_terms_40 : decode cX1_terms 40 = .ok (.iload_n 2, 1) := dk_28 (dk_at dksX1_terms_1 17 rfl rfl)
theorem dX1_terms_41 : decode cX1_terms 41 = .ok (.putfield 16, 3) := dk_181 0 16 (dk_at dksX1_terms_1 18 rfl rfl)
theorem dX1_terms_44 : decode cX1_terms 44 = .ok (.aload_n 0, 1) := dk_42 (dk_at dksX1_terms_1 21 rfl rfl)
theorem dX1_terms_45 : decode cX1_terms 45 = .ok (.iload_n 3, 1) := dk_29 (dk_at dksX1_terms_1 22 rfl rfl)
theorem dX1_terms_46 : decode cX1_terms 46 = .ok (.putfield 19, 3) := dk_181 0 19 (dk_at dksX1_terms_2 0 rfl rfl)
theorem dX1_terms_49 : decode cX1_terms 49 = .ok (.aload_n 0, 1) := dk_42 (dk_at dksX1_terms_2 3 rfl rfl)
theorem dX1_terms_50 : decode cX1_terms 50 = .ok (.invokevirtual 117, 3) := dk_182 0 117 (dk_at dksX1_terms_2 4 rfl rfl)
theorem dX1_terms_53 : decode cX1_terms 53 = .ok (.ireturn, 1) := dk_172 (dk_at dksX1_terms_2 7 rfl rfl)
abbrev cX1_rest : ByteArray := prog_1_method_11_code
def yX1_rest : MethodName := ⟨RX1, "rest", "(II)Z"⟩
def dkwX1_rest_1 : List UInt8 := [42, 27, 181, 0, 22, 42, 28, 181, 0, 25, 4, 172]
abbrev dktX1_rest_1 : List UInt8 := dkwX1_rest_1 ++ []
def dkwX1_rest_0 : List UInt8 := [27, 3, 17, 1, 144, 184, 0, 113, 153, 0, 14, 28, 3, 17, 0, 198, 184, 0, 113, 154, 0, 5, 3, 172]
abbrev dktX1_rest_0 : List UInt8 := dkwX1_rest_0 ++ dktX1_rest_1
theorem dksX1_rest_0 : cX1_rest.data.toList.drop 0 = dktX1_rest_0 := by decide +kernel
theorem dksX1_rest_1 : cX1_rest.data.toList.drop 24 = dktX1_rest_1 := dk_seg dksX1_rest_0 24 rfl rfl
theorem dX1_rest_0 : decode cX1_rest 0 = .ok (.iload_n 1, 1) := dk_27 (dk_at dksX1_rest_0 0 rfl rfl)
theorem dX1_rest_1 : decode cX1_rest 1 = .ok (.iconst 0, 1) := dk_3 (dk_at dksX1_rest_0 1 rfl rfl)
theorem dX1_rest_2 : decode cX1_rest 2 = .ok (.sipush 400, 3) := dk_17 1 144 (dk_at dksX1_rest_0 2 rfl rfl)
theorem dX1_rest_5 : decode cX1_rest 5 = .ok (.invokestatic 113, 3) := dk_184 0 113 (dk_at dksX1_rest_0 5 rfl rfl)
theorem dX1_rest_8 : decode cX1_rest 8 = .ok (.ifCond .eq 14, 3) := dk_153 0 14 (dk_at dksX1_rest_0 8 rfl rfl)
theorem dX1_rest_11 : decode cX1_rest 11 = .ok (.iload_n 2, 1) := dk_28 (dk_at dksX1_rest_0 11 rfl rfl)
theorem dX1_rest_12 : decode cX1_rest 12 = .ok (.iconst 0, 1) := dk_3 (dk_at dksX1_rest_0 12 rfl rfl)
theorem dX1_rest_13 : decode cX1_rest 13 = .ok (.sipush 198, 3) := dk_17 0 198 (dk_at dksX1_rest_0 13 rfl rfl)
theorem dX1_rest_16 : decode cX1_rest 16 = .ok (.invokestatic 113, 3) := dk_184 0 113 (dk_at dksX1_rest_0 16 rfl rfl)
theorem dX1_rest_19 : decode cX1_rest 19 = .ok (.ifCond .ne 5, 3) := dk_154 0 5 (dk_at dksX1_rest_0 19 rfl rfl)
theorem dX1_rest_22 : decode cX1_rest 22 = .ok (.iconst 0, 1) := dk_3 (dk_at dksX1_rest_0 22 rfl rfl)
theorem dX1_rest_23 : decode cX1_rest 23 = .ok (.ireturn, 1) := dk_172 (dk_at dksX1_rest_0 23 rfl rfl)
theorem dX1_rest_24 : decode cX1_rest 24 = .ok (.aload_n 0, 1) := dk_42 (dk_at dksX1_rest_1 0 rfl rfl)
theorem dX1_rest_25 : decode cX1_rest 25 = .ok (.iload_n 1, 1) := dk_27 (dk_at dksX1_rest_1 1 rfl rfl)
theorem dX1_rest_26 : decode cX1_rest 26 = .ok (.putfield 22, 3) := dk_181 0 22 (dk_at dksX1_rest_1 2 rfl rfl)
theorem dX1_rest_29 : decode cX1_rest 29 = .ok (.aload_n 0, 1) := dk_42 (dk_at dksX1_rest_1 5 rfl rfl)
theorem dX1_rest_30 : decode cX1_rest 30 = .ok (.iload_n 2, 1) := dk_28 (dk_at dksX1_rest_1 6 rfl rfl)
theorem dX1_rest_31 : decode cX1_rest 31 = .ok (.putfield 25, 3) := dk_181 0 25 (dk_at dksX1_rest_1 7 rfl rfl)
theorem dX1_rest_34 : decode cX1_rest 34 = .ok (.iconst 1, 1) := dk_4 (dk_at dksX1_rest_1 10 rfl rfl)
theorem dX1_rest_35 : decode cX1_rest 35 = .ok (.ireturn, 1) := dk_172 (dk_at dksX1_rest_1 11 rfl rfl)
abbrev cX1_visit : ByteArray := prog_1_method_16_code
def yX1_visit : MethodName := ⟨RX1, "visit", "(IIIIIII)I"⟩
def dkwX1_visit_9 : List UInt8 := [42, 182, 0, 117, 87, 42, 180, 0, 40, 182, 0, 121, 4, 100, 172]
abbrev dktX1_visit_9 : List UInt8 := dkwX1_visit_9 ++ []
def dkwX1_visit_8 : List UInt8 := [192, 0, 98, 28, 29, 21, 4, 21, 5, 21, 6, 21, 7, 42, 180, 0, 110, 183, 0, 154, 182, 0, 133, 87]
abbrev dktX1_visit_8 : List UInt8 := dkwX1_visit_8 ++ dktX1_visit_9
def dkwX1_visit_7 : List UInt8 := [172, 42, 180, 0, 40, 187, 0, 81, 89, 42, 180, 0, 40, 182, 0, 121, 42, 180, 0, 33, 27, 182, 0, 144]
abbrev dktX1_visit_7 : List UInt8 := dkwX1_visit_7 ++ dktX1_visit_8
def dkwX1_visit_6 : List UInt8 := [180, 0, 151, 29, 160, 0, 6, 132, 8, 1, 132, 9, 1, 167, 255, 200, 21, 8, 16, 12, 160, 0, 5, 2]
abbrev dktX1_visit_6 : List UInt8 := dkwX1_visit_6 ++ dktX1_visit_7
def dkwX1_visit_5 : List UInt8 := [192, 0, 81, 180, 0, 148, 28, 160, 0, 25, 42, 180, 0, 40, 21, 9, 182, 0, 144, 192, 0, 81]
abbrev dktX1_visit_5 : List UInt8 := dkwX1_visit_5 ++ dktX1_visit_6
def dkwX1_visit_4 : List UInt8 := [54, 9, 21, 9, 42, 180, 0, 40, 182, 0, 121, 162, 0, 50, 42, 180, 0, 40, 21, 9, 182, 0, 144]
abbrev dktX1_visit_4 : List UInt8 := dkwX1_visit_4 ++ dktX1_visit_5
def dkwX1_visit_3 : List UInt8 := [184, 0, 113, 153, 0, 15, 42, 180, 0, 40, 182, 0, 121, 16, 120, 160, 0, 5, 2, 172, 3, 54, 8, 3]
abbrev dktX1_visit_3 : List UInt8 := dkwX1_visit_3 ++ dktX1_visit_4
def dkwX1_visit_2 : List UInt8 := [184, 0, 113, 153, 0, 39, 21, 6, 3, 17, 15, 255, 184, 0, 113, 153, 0, 27, 21, 7, 2, 17, 5, 159]
abbrev dktX1_visit_2 : List UInt8 := dkwX1_visit_2 ++ dktX1_visit_3
def dkwX1_visit_1 : List UInt8 := [184, 0, 113, 153, 0, 63, 21, 4, 3, 17, 5, 159, 184, 0, 113, 153, 0, 51, 21, 5, 4, 17, 1, 44]
abbrev dktX1_visit_1 : List UInt8 := dkwX1_visit_1 ++ dktX1_visit_2
def dkwX1_visit_0 : List UInt8 := [42, 27, 182, 0, 137, 153, 0, 83, 42, 28, 182, 0, 141, 153, 0, 75, 29, 3, 42, 180, 0, 110]
abbrev dktX1_visit_0 : List UInt8 := dkwX1_visit_0 ++ dktX1_visit_1
theorem dksX1_visit_0 : cX1_visit.data.toList.drop 0 = dktX1_visit_0 := by decide +kernel
theorem dksX1_visit_1 : cX1_visit.data.toList.drop 22 = dktX1_visit_1 := dk_seg dksX1_visit_0 22 rfl rfl
theorem dksX1_visit_2 : cX1_visit.data.toList.drop 46 = dktX1_visit_2 := dk_seg dksX1_visit_1 24 rfl rfl
theorem dksX1_visit_3 : cX1_visit.data.toList.drop 70 = dktX1_visit_3 := dk_seg dksX1_visit_2 24 rfl rfl
theorem dksX1_visit_4 : cX1_visit.data.toList.drop 94 = dktX1_visit_4 := dk_seg dksX1_visit_3 24 rfl rfl
theorem dksX1_visit_5 : cX1_visit.data.toList.drop 117 = dktX1_visit_5 := dk_seg dksX1_visit_4 23 rfl rfl
theorem dksX1_visit_6 : cX1_visit.data.toList.drop 139 = dktX1_visit_6 := dk_seg dksX1_visit_5 22 rfl rfl
theorem dksX1_visit_7 : cX1_visit.data.toList.drop 163 = dktX1_visit_7 := dk_seg dksX1_visit_6 24 rfl rfl
theorem dksX1_visit_8 : cX1_visit.data.toList.drop 187 = dktX1_visit_8 := dk_seg dksX1_visit_7 24 rfl rfl
theorem dksX1_visit_9 : cX1_visit.data.toList.drop 211 = dktX1_visit_9 := dk_seg dksX1_visit_8 24 rfl rfl
theorem dX1_visit_0 : decode cX1_visit 0 = .ok (.aload_n 0, 1) := dk_42 (dk_at dksX1_visit_0 0 rfl rfl)
theorem dX1_visit_1 : decode cX1_visit 1 = .ok (.iload_n 1, 1) := dk_27 (dk_at dksX1_visit_0 1 rfl rfl)
theorem dX1_visit_2 : decode cX1_visit 2 = .ok (.invokevirtual 137, 3) := dk_182 0 137 (dk_at dksX1_visit_0 2 rfl rfl)
theorem dX1_visit_5 : decode cX1_visit 5 = .ok (.ifCond .eq 83, 3) := dk_153 0 83 (dk_at dksX1_visit_0 5 rfl rfl)
theorem dX1_visit_8 : decode cX1_visit 8 = .ok (.aload_n 0, 1) := dk_42 (dk_at dksX1_visit_0 8 rfl rfl)
theorem dX1_visit_9 : decode cX1_visit 9 = .ok (.iload_n 2, 1) := dk_28 (dk_at dksX1_visit_0 9 rfl rfl)
theorem dX1_visit_10 : decode cX1_visit 10 = .ok (.invokevirtual 141, 3) := dk_182 0 141 (dk_at dksX1_visit_0 10 rfl rfl)
theorem dX1_visit_13 : decode cX1_visit 13 = .ok (.ifCond .eq 75, 3) := dk_153 0 75 (dk_at dksX1_visit_0 13 rfl rfl)
theorem dX1_visit_16 : decode cX1_visit 16 = .ok (.iload_n 3, 1) := dk_29 (dk_at dksX1_visit_0 16 rfl rfl)
theorem dX1_visit_17 : decode cX1_visit 17 = .ok (.iconst 0, 1) := dk_3 (dk_at dksX1_visit_0 17 rfl rfl)
theorem dX1_visit_18 : decode cX1_visit 18 = .ok (.aload_n 0, 1) := dk_42 (dk_at dksX1_visit_0 18 rfl rfl)
theorem dX1_visit_19 : decode cX1_visit 19 = .ok (.getfield 110, 3) := dk_180 0 110 (dk_at dksX1_visit_0 19 rfl rfl)
theorem dX1_visit_22 : decode cX1_visit 22 = .ok (.invokestatic 113, 3) := dk_184 0 113 (dk_at dksX1_visit_1 0 rfl rfl)
theorem dX1_visit_25 : decode cX1_visit 25 = .ok (.ifCond .eq 63, 3) := dk_153 0 63 (dk_at dksX1_visit_1 3 rfl rfl)
theorem dX1_visit_28 : decode cX1_visit 28 = .ok (.iload 4, 2) := dk_21 4 (dk_at dksX1_visit_1 6 rfl rfl)
theorem dX1_visit_30 : decode cX1_visit 30 = .ok (.iconst 0, 1) := dk_3 (dk_at dksX1_visit_1 8 rfl rfl)
theorem dX1_visit_31 : decode cX1_visit 31 = .ok (.sipush 1439, 3) := dk_17 5 159 (dk_at dksX1_visit_1 9 rfl rfl)
theorem dX1_visit_34 : decode cX1_visit 34 = .ok (.invokestatic 113, 3) := dk_184 0 113 (dk_at dksX1_visit_1 12 rfl rfl)
theorem dX1_visit_37 : decode cX1_visit 37 = .ok (.ifCond .eq 51, 3) := dk_153 0 51 (dk_at dksX1_visit_1 15 rfl rfl)
theorem dX1_visit_40 : decode cX1_visit 40 = .ok (.iload 5, 2) := dk_21 5 (dk_at dksX1_visit_1 18 rfl rfl)
theorem dX1_visit_42 : decode cX1_visit 42 = .ok (.iconst 1, 1) := dk_4 (dk_at dksX1_visit_1 20 rfl rfl)
theorem dX1_visit_43 : decode cX1_visit 43 = .ok (.sipush 300, 3) := dk_17 1 44 (dk_at dksX1_visit_1 21 rfl rfl)
theorem dX1_visit_46 : decode cX1_visit 46 = .ok (.invokestatic 113, 3) := dk_184 0 113 (dk_at dksX1_visit_2 0 rfl rfl)
theorem dX1_visit_49 : decode cX1_visit 49 = .ok (.ifCond .eq 39, 3) := dk_153 0 39 (dk_at dksX1_visit_2 3 rfl rfl)
theorem dX1_visit_52 : decode cX1_visit 52 = .ok (.iload 6, 2) := dk_21 6 (dk_at dksX1_visit_2 6 rfl rfl)
theorem dX1_visit_54 : decode cX1_visit 54 = .ok (.iconst 0, 1) := dk_3 (dk_at dksX1_visit_2 8 rfl rfl)
theorem dX1_visit_55 : decode cX1_visit 55 = .ok (.sipush 4095, 3) := dk_17 15 255 (dk_at dksX1_visit_2 9 rfl rfl)
theorem dX1_visit_58 : decode cX1_visit 58 = .ok (.invokestatic 113, 3) := dk_184 0 113 (dk_at dksX1_visit_2 12 rfl rfl)
theorem dX1_visit_61 : decode cX1_visit 61 = .ok (.ifCond .eq 27, 3) := dk_153 0 27 (dk_at dksX1_visit_2 15 rfl rfl)
theorem dX1_visit_64 : decode cX1_visit 64 = .ok (.iload 7, 2) := dk_21 7 (dk_at dksX1_visit_2 18 rfl rfl)
theorem dX1_visit_66 : decode cX1_visit 66 = .ok (.iconst (-1), 1) := dk_2 (dk_at dksX1_visit_2 20 rfl rfl)
theorem dX1_visit_67 : decode cX1_visit 67 = .ok (.sipush 1439, 3) := dk_17 5 159 (dk_at dksX1_visit_2 21 rfl rfl)
theorem dX1_visit_70 : decode cX1_visit 70 = .ok (.invokestatic 113, 3) := dk_184 0 113 (dk_at dksX1_visit_3 0 rfl rfl)
theorem dX1_visit_73 : decode cX1_visit 73 = .ok (.ifCond .eq 15, 3) := dk_153 0 15 (dk_at dksX1_visit_3 3 rfl rfl)
theorem dX1_visit_76 : decode cX1_visit 76 = .ok (.aload_n 0, 1) := dk_42 (dk_at dksX1_visit_3 6 rfl rfl)
theorem dX1_visit_77 : decode cX1_visit 77 = .ok (.getfield 40, 3) := dk_180 0 40 (dk_at dksX1_visit_3 7 rfl rfl)
theorem dX1_visit_80 : decode cX1_visit 80 = .ok (.invokevirtual 121, 3) := dk_182 0 121 (dk_at dksX1_visit_3 10 rfl rfl)
theorem dX1_visit_83 : decode cX1_visit 83 = .ok (.bipush 120, 2) := dk_16 120 (dk_at dksX1_visit_3 13 rfl rfl)
theorem dX1_visit_85 : decode cX1_visit 85 = .ok (.if_icmp .ne 5, 3) := dk_160 0 5 (dk_at dksX1_visit_3 15 rfl rfl)
theorem dX1_visit_88 : decode cX1_visit 88 = .ok (.iconst (-1), 1) := dk_2 (dk_at dksX1_visit_3 18 rfl rfl)
theorem dX1_visit_89 : decode cX1_visit 89 = .ok (.ireturn, 1) := dk_172 (dk_at dksX1_visit_3 19 rfl rfl)
theorem dX1_visit_90 : decode cX1_visit 90 = .ok (.iconst 0, 1) := dk_3 (dk_at dksX1_visit_3 20 rfl rfl)
theorem dX1_visit_91 : decode cX1_visit 91 = .ok (.istore 8, 2) := dk_54 8 (dk_at dksX1_visit_3 21 rfl rfl)
theorem dX1_visit_93 : decode cX1_visit 93 = .ok (.iconst 0, 1) := dk_3 (dk_at dksX1_visit_3 23 rfl rfl)
theorem dX1_visit_94 : decode cX1_visit 94 = .ok (.istore 9, 2) := dk_54 9 (dk_at dksX1_visit_4 0 rfl rfl)
theorem dX1_visit_96 : decode cX1_visit 96 = .ok (.iload 9, 2) := dk_21 9 (dk_at dksX1_visit_4 2 rfl rfl)
theorem dX1_visit_98 : decode cX1_visit 98 = .ok (.aload_n 0, 1) := dk_42 (dk_at dksX1_visit_4 4 rfl rfl)
theorem dX1_visit_99 : decode cX1_visit 99 = .ok (.getfield 40, 3) := dk_180 0 40 (dk_at dksX1_visit_4 5 rfl rfl)
theorem dX1_visit_102 : decode cX1_visit 102 = .ok (.invokevirtual 121, 3) := dk_182 0 121 (dk_at dksX1_visit_4 8 rfl rfl)
theorem dX1_visit_105 : decode cX1_visit 105 = .ok (.if_icmp .ge 50, 3) := dk_162 0 50 (dk_at dksX1_visit_4 11 rfl rfl)
theorem dX1_visit_108 : decode cX1_visit 108 = .ok (.aload_n 0, 1) := dk_42 (dk_at dksX1_visit_4 14 rfl rfl)
theorem dX1_visit_109 : decode cX1_visit 109 = .ok (.getfield 40, 3) := dk_180 0 40 (dk_at dksX1_visit_4 15 rfl rfl)
theorem dX1_visit_112 : decode cX1_visit 112 = .ok (.iload 9, 2) := dk_21 9 (dk_at dksX1_visit_4 18 rfl rfl)
theorem dX1_visit_114 : decode cX1_visit 114 = .ok (.invokevirtual 144, 3) := dk_182 0 144 (dk_at dksX1_visit_4 20 rfl rfl)
theorem dX1_visit_117 : decode cX1_visit 117 = .ok (.checkcast 81, 3) := dk_192 0 81 (dk_at dksX1_visit_5 0 rfl rfl)
theorem dX1_visit_120 : decode cX1_visit 120 = .ok (.getfield 148, 3) := dk_180 0 148 (dk_at dksX1_visit_5 3 rfl rfl)
theorem dX1_visit_123 : decode cX1_visit 123 = .ok (.iload_n 2, 1) := dk_28 (dk_at dksX1_visit_5 6 rfl rfl)
theorem dX1_visit_124 : decode cX1_visit 124 = .ok (.if_icmp .ne 25, 3) := dk_160 0 25 (dk_at dksX1_visit_5 7 rfl rfl)
theorem dX1_visit_127 : decode cX1_visit 127 = .ok (.aload_n 0, 1) := dk_42 (dk_at dksX1_visit_5 10 rfl rfl)
theorem dX1_visit_128 : decode cX1_visit 128 = .ok (.getfield 40, 3) := dk_180 0 40 (dk_at dksX1_visit_5 11 rfl rfl)
theorem dX1_visit_131 : decode cX1_visit 131 = .ok (.iload 9, 2) := dk_21 9 (dk_at dksX1_visit_5 14 rfl rfl)
theorem dX1_visit_133 : decode cX1_visit 133 = .ok (.invokevirtual 144, 3) := dk_182 0 144 (dk_at dksX1_visit_5 16 rfl rfl)
theorem dX1_visit_136 : decode cX1_visit 136 = .ok (.checkcast 81, 3) := dk_192 0 81 (dk_at dksX1_visit_5 19 rfl rfl)
theorem dX1_visit_139 : decode cX1_visit 139 = .ok (.getfield 151, 3) := dk_180 0 151 (dk_at dksX1_visit_6 0 rfl rfl)
theorem dX1_visit_142 : decode cX1_visit 142 = .ok (.iload_n 3, 1) := dk_29 (dk_at dksX1_visit_6 3 rfl rfl)
theorem dX1_visit_143 : decode cX1_visit 143 = .ok (.if_icmp .ne 6, 3) := dk_160 0 6 (dk_at dksX1_visit_6 4 rfl rfl)
theorem dX1_visit_146 : decode cX1_visit 146 = .ok (.iinc 8 1, 3) := dk_132 8 1 (dk_at dksX1_visit_6 7 rfl rfl)
theorem dX1_visit_149 : decode cX1_visit 149 = .ok (.iinc 9 1, 3) := dk_132 9 1 (dk_at dksX1_visit_6 10 rfl rfl)
theorem dX1_visit_152 : decode cX1_visit 152 = .ok (.goto (-56), 3) := dk_167 255 200 (dk_at dksX1_visit_6 13 rfl rfl)
theorem dX1_visit_155 : decode cX1_visit 155 = .ok (.iload 8, 2) := dk_21 8 (dk_at dksX1_visit_6 16 rfl rfl)
theorem dX1_visit_157 : decode cX1_visit 157 = .ok (.bipush 12, 2) := dk_16 12 (dk_at dksX1_visit_6 18 rfl rfl)
theorem dX1_visit_159 : decode cX1_visit 159 = .ok (.if_icmp .ne 5, 3) := dk_160 0 5 (dk_at dksX1_visit_6 20 rfl rfl)
theorem dX1_visit_162 : decode cX1_visit 162 = .ok (.iconst (-1), 1) := dk_2 (dk_at dksX1_visit_6 23 rfl rfl)
theorem dX1_visit_163 : decode cX1_visit 163 = .ok (.ireturn, 1) := dk_172 (dk_at dksX1_visit_7 0 rfl rfl)
theorem dX1_visit_164 : decode cX1_visit 164 = .ok (.aload_n 0, 1) := dk_42 (dk_at dksX1_visit_7 1 rfl rfl)
theorem dX1_visit_165 : decode cX1_visit 165 = .ok (.getfield 40, 3) := dk_180 0 40 (dk_at dksX1_visit_7 2 rfl rfl)
theorem dX1_visit_168 : decode cX1_visit 168 = .ok (.new 81, 3) := dk_187 0 81 (dk_at dksX1_visit_7 5 rfl rfl)
theorem dX1_visit_171 : decode cX1_visit 171 = .ok (.dup, 1) := dk_89 (dk_at dksX1_visit_7 8 rfl rfl)
theorem dX1_visit_172 : decode cX1_visit 172 = .ok (.aload_n 0, 1) := dk_42 (dk_at dksX1_visit_7 9 rfl rfl)
theorem dX1_visit_173 : decode cX1_visit 173 = .ok (.getfield 40, 3) := dk_180 0 40 (dk_at dksX1_visit_7 10 rfl rfl)
theorem dX1_visit_176 : decode cX1_visit 176 = .ok (.invokevirtual 121, 3) := dk_182 0 121 (dk_at dksX1_visit_7 13 rfl rfl)
theorem dX1_visit_179 : decode cX1_visit 179 = .ok (.aload_n 0, 1) := dk_42 (dk_at dksX1_visit_7 16 rfl rfl)
theorem dX1_visit_180 : decode cX1_visit 180 = .ok (.getfield 33, 3) := dk_180 0 33 (dk_at dksX1_visit_7 17 rfl rfl)
theorem dX1_visit_183 : decode cX1_visit 183 = .ok (.iload_n 1, 1) := dk_27 (dk_at dksX1_visit_7 20 rfl rfl)
theorem dX1_visit_184 : decode cX1_visit 184 = .ok (.invokevirtual 144, 3) := dk_182 0 144 (dk_at dksX1_visit_7 21 rfl rfl)
theorem dX1_visit_187 : decode cX1_visit 187 = .ok (.checkcast 98, 3) := dk_192 0 98 (dk_at dksX1_visit_8 0 rfl rfl)
theorem dX1_visit_190 : decode cX1_visit 190 = .ok (.iload_n 2, 1) := dk_28 (dk_at dksX1_visit_8 3 rfl rfl)
theorem dX1_visit_191 : decode cX1_visit 191 = .ok (.iload_n 3, 1) := dk_29 (dk_at dksX1_visit_8 4 rfl rfl)
theorem dX1_visit_192 : decode cX1_visit 192 = .ok (.iload 4, 2) := dk_21 4 (dk_at dksX1_visit_8 5 rfl rfl)
theorem dX1_visit_194 : decode cX1_visit 194 = .ok (.iload 5, 2) := dk_21 5 (dk_at dksX1_visit_8 7 rfl rfl)
theorem dX1_visit_196 : decode cX1_visit 196 = .ok (.iload 6, 2) := dk_21 6 (dk_at dksX1_visit_8 9 rfl rfl)
theorem dX1_visit_198 : decode cX1_visit 198 = .ok (.iload 7, 2) := dk_21 7 (dk_at dksX1_visit_8 11 rfl rfl)
theorem dX1_visit_200 : decode cX1_visit 200 = .ok (.aload_n 0, 1) := dk_42 (dk_at dksX1_visit_8 13 rfl rfl)
theorem dX1_visit_201 : decode cX1_visit 201 = .ok (.getfield 110, 3) := dk_180 0 110 (dk_at dksX1_visit_8 14 rfl rfl)
theorem dX1_visit_204 : decode cX1_visit 204 = .ok (.invokespecial 154, 3) := dk_183 0 154 (dk_at dksX1_visit_8 17 rfl rfl)
theorem dX1_visit_207 : decode cX1_visit 207 = .ok (.invokevirtual 133, 3) := dk_182 0 133 (dk_at dksX1_visit_8 20 rfl rfl)
theorem dX1_visit_210 : decode cX1_visit 210 = .ok (.pop, 1) := dk_87 (dk_at dksX1_visit_8 23 rfl rfl)
theorem dX1_visit_211 : decode cX1_visit 211 = .ok (.aload_n 0, 1) := dk_42 (dk_at dksX1_visit_9 0 rfl rfl)
theorem dX1_visit_212 : decode cX1_visit 212 = .ok (.invokevirtual 117, 3) := dk_182 0 117 (dk_at dksX1_visit_9 1 rfl rfl)
theorem dX1_visit_215 : decode cX1_visit 215 = .ok (.pop, 1) := dk_87 (dk_at dksX1_visit_9 4 rfl rfl)
theorem dX1_visit_216 : decode cX1_visit 216 = .ok (.aload_n 0, 1) := dk_42 (dk_at dksX1_visit_9 5 rfl rfl)
theorem dX1_visit_217 : decode cX1_visit 217 = .ok (.getfield 40, 3) := dk_180 0 40 (dk_at dksX1_visit_9 6 rfl rfl)
theorem dX1_visit_220 : decode cX1_visit 220 = .ok (.invokevirtual 121, 3) := dk_182 0 121 (dk_at dksX1_visit_9 9 rfl rfl)
theorem dX1_visit_223 : decode cX1_visit 223 = .ok (.iconst 1, 1) := dk_4 (dk_at dksX1_visit_9 12 rfl rfl)
theorem dX1_visit_224 : decode cX1_visit 224 = .ok (.isub, 1) := dk_100 (dk_at dksX1_visit_9 13 rfl rfl)
theorem dX1_visit_225 : decode cX1_visit 225 = .ok (.ireturn, 1) := dk_172 (dk_at dksX1_visit_9 14 rfl rfl)
abbrev cX1_isShop : ByteArray := prog_1_method_12_code
def yX1_isShop : MethodName := ⟨RX1, "isShop", "(I)Z"⟩
def dkwX1_isShop_0 : List UInt8 := [27, 3, 42, 180, 0, 33, 182, 0, 121, 4, 100, 184, 0, 113, 172]
abbrev dktX1_isShop_0 : List UInt8 := dkwX1_isShop_0 ++ []
theorem dksX1_isShop_0 : cX1_isShop.data.toList.drop 0 = dktX1_isShop_0 := by decide +kernel
theorem dX1_isShop_0 : decode cX1_isShop 0 = .ok (.iload_n 1, 1) := dk_27 (dk_at dksX1_isShop_0 0 rfl rfl)
theorem dX1_isShop_1 : decode cX1_isShop 1 = .ok (.iconst 0, 1) := dk_3 (dk_at dksX1_isShop_0 1 rfl rfl)
theorem dX1_isShop_2 : decode cX1_isShop 2 = .ok (.aload_n 0, 1) := dk_42 (dk_at dksX1_isShop_0 2 rfl rfl)
theorem dX1_isShop_3 : decode cX1_isShop 3 = .ok (.getfield 33, 3) := dk_180 0 33 (dk_at dksX1_isShop_0 3 rfl rfl)
theorem dX1_isShop_6 : decode cX1_isShop 6 = .ok (.invokevirtual 121, 3) := dk_182 0 121 (dk_at dksX1_isShop_0 6 rfl rfl)
theorem dX1_isShop_9 : decode cX1_isShop 9 = .ok (.iconst 1, 1) := dk_4 (dk_at dksX1_isShop_0 9 rfl rfl)
theorem dX1_isShop_10 : decode cX1_isShop 10 = .ok (.isub, 1) := dk_100 (dk_at dksX1_isShop_0 10 rfl rfl)
theorem dX1_isShop_11 : decode cX1_isShop 11 = .ok (.invokestatic 113, 3) := dk_184 0 113 (dk_at dksX1_isShop_0 11 rfl rfl)
theorem dX1_isShop_14 : decode cX1_isShop 14 = .ok (.ireturn, 1) := dk_172 (dk_at dksX1_isShop_0 14 rfl rfl)
abbrev cX1_isBuyer : ByteArray := prog_1_method_13_code
def yX1_isBuyer : MethodName := ⟨RX1, "isBuyer", "(I)Z"⟩
def dkwX1_isBuyer_0 : List UInt8 := [27, 3, 42, 180, 0, 37, 182, 0, 121, 4, 100, 184, 0, 113, 172]
abbrev dktX1_isBuyer_0 : List UInt8 := dkwX1_isBuyer_0 ++ []
theorem dksX1_isBuyer_0 : cX1_isBuyer.data.toList.drop 0 = dktX1_isBuyer_0 := by decide +kernel
theorem dX1_isBuyer_0 : decode cX1_isBuyer 0 = .ok (.iload_n 1, 1) := dk_27 (dk_at dksX1_isBuyer_0 0 rfl rfl)
theorem dX1_isBuyer_1 : decode cX1_isBuyer 1 = .ok (.iconst 0, 1) := dk_3 (dk_at dksX1_isBuyer_0 1 rfl rfl)
theorem dX1_isBuyer_2 : decode cX1_isBuyer 2 = .ok (.aload_n 0, 1) := dk_42 (dk_at dksX1_isBuyer_0 2 rfl rfl)
theorem dX1_isBuyer_3 : decode cX1_isBuyer 3 = .ok (.getfield 37, 3) := dk_180 0 37 (dk_at dksX1_isBuyer_0 3 rfl rfl)
theorem dX1_isBuyer_6 : decode cX1_isBuyer 6 = .ok (.invokevirtual 121, 3) := dk_182 0 121 (dk_at dksX1_isBuyer_0 6 rfl rfl)
theorem dX1_isBuyer_9 : decode cX1_isBuyer 9 = .ok (.iconst 1, 1) := dk_4 (dk_at dksX1_isBuyer_0 9 rfl rfl)
theorem dX1_isBuyer_10 : decode cX1_isBuyer 10 = .ok (.isub, 1) := dk_100 (dk_at dksX1_isBuyer_0 10 rfl rfl)
theorem dX1_isBuyer_11 : decode cX1_isBuyer 11 = .ok (.invokestatic 113, 3) := dk_184 0 113 (dk_at dksX1_isBuyer_0 11 rfl rfl)
theorem dX1_isBuyer_14 : decode cX1_isBuyer 14 = .ok (.ireturn, 1) := dk_172 (dk_at dksX1_isBuyer_0 14 rfl rfl)
abbrev cX1_appeal : ByteArray := prog_1_method_17_code
def yX1_appeal : MethodName := ⟨RX1, "appeal", "(II)Z"⟩
def dkwX1_appeal_4 : List UInt8 := [182, 0, 117, 172]
abbrev dktX1_appeal_4 : List UInt8 := dkwX1_appeal_4 ++ []
def dkwX1_appeal_3 : List UInt8 := [172, 42, 180, 0, 43, 187, 0, 170, 89, 45, 28, 42, 180, 0, 110, 183, 0, 172, 182, 0, 133, 87, 42]
abbrev dktX1_appeal_3 : List UInt8 := dkwX1_appeal_3 ++ dktX1_appeal_4
def dkwX1_appeal_2 : List UInt8 := [180, 0, 160, 180, 0, 164, 153, 0, 17, 42, 180, 0, 110, 45, 180, 0, 167, 16, 14, 96, 164, 0, 5, 3]
abbrev dktX1_appeal_2 : List UInt8 := dkwX1_appeal_2 ++ dktX1_appeal_3
def dkwX1_appeal_1 : List UInt8 := [182, 0, 121, 16, 60, 160, 0, 5, 3, 172, 42, 180, 0, 40, 27, 182, 0, 144, 192, 0, 81, 78, 45]
abbrev dktX1_appeal_1 : List UInt8 := dkwX1_appeal_1 ++ dktX1_appeal_2
def dkwX1_appeal_0 : List UInt8 := [42, 27, 182, 0, 157, 153, 0, 25, 28, 3, 16, 11, 184, 0, 113, 153, 0, 15, 42, 180, 0, 43]
abbrev dktX1_appeal_0 : List UInt8 := dkwX1_appeal_0 ++ dktX1_appeal_1
theorem dksX1_appeal_0 : cX1_appeal.data.toList.drop 0 = dktX1_appeal_0 := by decide +kernel
theorem dksX1_appeal_1 : cX1_appeal.data.toList.drop 22 = dktX1_appeal_1 := dk_seg dksX1_appeal_0 22 rfl rfl
theorem dksX1_appeal_2 : cX1_appeal.data.toList.drop 45 = dktX1_appeal_2 := dk_seg dksX1_appeal_1 23 rfl rfl
theorem dksX1_appeal_3 : cX1_appeal.data.toList.drop 69 = dktX1_appeal_3 := dk_seg dksX1_appeal_2 24 rfl rfl
theorem dksX1_appeal_4 : cX1_appeal.data.toList.drop 92 = dktX1_appeal_4 := dk_seg dksX1_appeal_3 23 rfl rfl
theorem dX1_appeal_0 : decode cX1_appeal 0 = .ok (.aload_n 0, 1) := dk_42 (dk_at dksX1_appeal_0 0 rfl rfl)
theorem dX1_appeal_1 : decode cX1_appeal 1 = .ok (.iload_n 1, 1) := dk_27 (dk_at dksX1_appeal_0 1 rfl rfl)
theorem dX1_appeal_2 : decode cX1_appeal 2 = .ok (.invokevirtual 157, 3) := dk_182 0 157 (dk_at dksX1_appeal_0 2 rfl rfl)
theorem dX1_appeal_5 : decode cX1_appeal 5 = .ok (.ifCond .eq 25, 3) := dk_153 0 25 (dk_at dksX1_appeal_0 5 rfl rfl)
theorem dX1_appeal_8 : decode cX1_appeal 8 = .ok (.iload_n 2, 1) := dk_28 (dk_at dksX1_appeal_0 8 rfl rfl)
theorem dX1_appeal_9 : decode cX1_appeal 9 = .ok (.iconst 0, 1) := dk_3 (dk_at dksX1_appeal_0 9 rfl rfl)
theorem dX1_appeal_10 : decode cX1_appeal 10 = .ok (.bipush 11, 2) := dk_16 11 (dk_at dksX1_appeal_0 10 rfl rfl)
theorem dX1_appeal_12 : decode cX1_appeal 12 = .ok (.invokestatic 113, 3) := dk_184 0 113 (dk_at dksX1_appeal_0 12 rfl rfl)
theorem dX1_appeal_15 : decode cX1_appeal 15 = .ok (.ifCond .eq 15, 3) := dk_153 0 15 (dk_at dksX1_appeal_0 15 rfl rfl)
theorem dX1_appeal_18 : decode cX1_appeal 18 = .ok (.aload_n 0, 1) := dk_42 (dk_at dksX1_appeal_0 18 rfl rfl)
theorem dX1_appeal_19 : decode cX1_appeal 19 = .ok (.getfield 43, 3) := dk_180 0 43 (dk_at dksX1_appeal_0 19 rfl rfl)
theorem dX1_appeal_22 : decode cX1_appeal 22 = .ok (.invokevirtual 121, 3) := dk_182 0 121 (dk_at dksX1_appeal_1 0 rfl rfl)
theorem dX1_appeal_25 : decode cX1_appeal 25 = .ok (.bipush 60, 2) := dk_16 60 (dk_at dksX1_appeal_1 3 rfl rfl)
theorem dX1_appeal_27 : decode cX1_appeal 27 = .ok (.if_icmp .ne 5, 3) := dk_160 0 5 (dk_at dksX1_appeal_1 5 rfl rfl)
theorem dX1_appeal_30 : decode cX1_appeal 30 = .ok (.iconst 0, 1) := dk_3 (dk_at dksX1_appeal_1 8 rfl rfl)
theorem dX1_appeal_31 : decode cX1_appeal 31 = .ok (.ireturn, 1) := dk_172 (dk_at dksX1_appeal_1 9 rfl rfl)
theorem dX1_appeal_32 : decode cX1_appeal 32 = .ok (.aload_n 0, 1) := dk_42 (dk_at dksX1_appeal_1 10 rfl rfl)
theorem dX1_appeal_33 : decode cX1_appeal 33 = .ok (.getfield 40, 3) := dk_180 0 40 (dk_at dksX1_appeal_1 11 rfl rfl)
theorem dX1_appeal_36 : decode cX1_appeal 36 = .ok (.iload_n 1, 1) := dk_27 (dk_at dksX1_appeal_1 14 rfl rfl)
theorem dX1_appeal_37 : decode cX1_appeal 37 = .ok (.invokevirtual 144, 3) := dk_182 0 144 (dk_at dksX1_appeal_1 15 rfl rfl)
theorem dX1_appeal_40 : decode cX1_appeal 40 = .ok (.checkcast 81, 3) := dk_192 0 81 (dk_at dksX1_appeal_1 18 rfl rfl)
theorem dX1_appeal_43 : decode cX1_appeal 43 = .ok (.astore_n 3, 1) := dk_78 (dk_at dksX1_appeal_1 21 rfl rfl)
theorem dX1_appeal_44 : decode cX1_appeal 44 = .ok (.aload_n 3, 1) := dk_45 (dk_at dksX1_appeal_1 22 rfl rfl)
theorem dX1_appeal_45 : decode cX1_appeal 45 = .ok (.getfield 160, 3) := dk_180 0 160 (dk_at dksX1_appeal_2 0 rfl rfl)
theorem dX1_appeal_48 : decode cX1_appeal 48 = .ok (.getfield 164, 3) := dk_180 0 164 (dk_at dksX1_appeal_2 3 rfl rfl)
theorem dX1_appeal_51 : decode cX1_appeal 51 = .ok (.ifCond .eq 17, 3) := dk_153 0 17 (dk_at dksX1_appeal_2 6 rfl rfl)
theorem dX1_appeal_54 : decode cX1_appeal 54 = .ok (.aload_n 0, 1) := dk_42 (dk_at dksX1_appeal_2 9 rfl rfl)
theorem dX1_appeal_55 : decode cX1_appeal 55 = .ok (.getfield 110, 3) := dk_180 0 110 (dk_at dksX1_appeal_2 10 rfl rfl)
theorem dX1_appeal_58 : decode cX1_appeal 58 = .ok (.aload_n 3, 1) := dk_45 (dk_at dksX1_appeal_2 13 rfl rfl)
theorem dX1_appeal_59 : decode cX1_appeal 59 = .ok (.getfield 167, 3) := dk_180 0 167 (dk_at dksX1_appeal_2 14 rfl rfl)
theorem dX1_appeal_62 : decode cX1_appeal 62 = .ok (.bipush 14, 2) := dk_16 14 (dk_at dksX1_appeal_2 17 rfl rfl)
theorem dX1_appeal_64 : decode cX1_appeal 64 = .ok (.iadd, 1) := dk_96 (dk_at dksX1_appeal_2 19 rfl rfl)
theorem dX1_appeal_65 : decode cX1_appeal 65 = .ok (.if_icmp .le 5, 3) := dk_164 0 5 (dk_at dksX1_appeal_2 20 rfl rfl)
theorem dX1_appeal_68 : decode cX1_appeal 68 = .ok (.iconst 0, 1) := dk_3 (dk_at dksX1_appeal_2 23 rfl rfl)
theorem dX1_appeal_69 : decode cX1_appeal 69 = .ok (.ireturn, 1) := dk_172 (dk_at dksX1_appeal_3 0 rfl rfl)
theorem dX1_appeal_70 : decode cX1_appeal 70 = .ok (.aload_n 0, 1) := dk_42 (dk_at dksX1_appeal_3 1 rfl rfl)
theorem dX1_appeal_71 : decode cX1_appeal 71 = .ok (.getfield 43, 3) := dk_180 0 43 (dk_at dksX1_appeal_3 2 rfl rfl)
theorem dX1_appeal_74 : decode cX1_appeal 74 = .ok (.new 170, 3) := dk_187 0 170 (dk_at dksX1_appeal_3 5 rfl rfl)
theorem dX1_appeal_77 : decode cX1_appeal 77 = .ok (.dup, 1) := dk_89 (dk_at dksX1_appeal_3 8 rfl rfl)
theorem dX1_appeal_78 : decode cX1_appeal 78 = .ok (.aload_n 3, 1) := dk_45 (dk_at dksX1_appeal_3 9 rfl rfl)
theorem dX1_appeal_79 : decode cX1_appeal 79 = .ok (.iload_n 2, 1) := dk_28 (dk_at dksX1_appeal_3 10 rfl rfl)
theorem dX1_appeal_80 : decode cX1_appeal 80 = .ok (.aload_n 0, 1) := dk_42 (dk_at dksX1_appeal_3 11 rfl rfl)
theorem dX1_appeal_81 : decode cX1_appeal 81 = .ok (.getfield 110, 3) := dk_180 0 110 (dk_at dksX1_appeal_3 12 rfl rfl)
theorem dX1_appeal_84 : decode cX1_appeal 84 = .ok (.invokespecial 172, 3) := dk_183 0 172 (dk_at dksX1_appeal_3 15 rfl rfl)
theorem dX1_appeal_87 : decode cX1_appeal 87 = .ok (.invokevirtual 133, 3) := dk_182 0 133 (dk_at dksX1_appeal_3 18 rfl rfl)
theorem dX1_appeal_90 : decode cX1_appeal 90 = .ok (.pop, 1) := dk_87 (dk_at dksX1_appeal_3 21 rfl rfl)
theorem dX1_appeal_91 : decode cX1_appeal 91 = .ok (.aload_n 0, 1) := dk_42 (dk_at dksX1_appeal_3 22 rfl rfl)
theorem dX1_appeal_92 : decode cX1_appeal 92 = .ok (.invokevirtual 117, 3) := dk_182 0 117 (dk_at dksX1_appeal_4 0 rfl rfl)
theorem dX1_appeal_95 : decode cX1_appeal 95 = .ok (.ireturn, 1) := dk_172 (dk_at dksX1_appeal_4 3 rfl rfl)
abbrev cX1_isVisit : ByteArray := prog_1_method_14_code
def yX1_isVisit : MethodName := ⟨RX1, "isVisit", "(I)Z"⟩
def dkwX1_isVisit_0 : List UInt8 := [27, 3, 42, 180, 0, 40, 182, 0, 121, 4, 100, 184, 0, 113, 172]
abbrev dktX1_isVisit_0 : List UInt8 := dkwX1_isVisit_0 ++ []
theorem dksX1_isVisit_0 : cX1_isVisit.data.toList.drop 0 = dktX1_isVisit_0 := by decide +kernel
theorem dX1_isVisit_0 : decode cX1_isVisit 0 = .ok (.iload_n 1, 1) := dk_27 (dk_at dksX1_isVisit_0 0 rfl rfl)
theorem dX1_isVisit_1 : decode cX1_isVisit 1 = .ok (.iconst 0, 1) := dk_3 (dk_at dksX1_isVisit_0 1 rfl rfl)
theorem dX1_isVisit_2 : decode cX1_isVisit 2 = .ok (.aload_n 0, 1) := dk_42 (dk_at dksX1_isVisit_0 2 rfl rfl)
theorem dX1_isVisit_3 : decode cX1_isVisit 3 = .ok (.getfield 40, 3) := dk_180 0 40 (dk_at dksX1_isVisit_0 3 rfl rfl)
theorem dX1_isVisit_6 : decode cX1_isVisit 6 = .ok (.invokevirtual 121, 3) := dk_182 0 121 (dk_at dksX1_isVisit_0 6 rfl rfl)
theorem dX1_isVisit_9 : decode cX1_isVisit 9 = .ok (.iconst 1, 1) := dk_4 (dk_at dksX1_isVisit_0 9 rfl rfl)
theorem dX1_isVisit_10 : decode cX1_isVisit 10 = .ok (.isub, 1) := dk_100 (dk_at dksX1_isVisit_0 10 rfl rfl)
theorem dX1_isVisit_11 : decode cX1_isVisit 11 = .ok (.invokestatic 113, 3) := dk_184 0 113 (dk_at dksX1_isVisit_0 11 rfl rfl)
theorem dX1_isVisit_14 : decode cX1_isVisit 14 = .ok (.ireturn, 1) := dk_172 (dk_at dksX1_isVisit_0 14 rfl rfl)
abbrev cX1_feed : ByteArray := prog_1_method_18_code
def yX1_feed : MethodName := ⟨RX1, "feed", "(JJJ)I"⟩
def dkwX1_feed_4 : List UInt8 := [96, 181, 0, 175, 21, 8, 145, 84, 132, 7, 1, 167, 255, 153, 42, 180, 0, 175, 172]
abbrev dktX1_feed_4 : List UInt8 := dkwX1_feed_4 ++ []
def dkwX1_feed_3 : List UInt8 := [163, 0, 32, 42, 180, 0, 175, 17, 3, 232, 162, 0, 22, 42, 180, 0, 49, 42, 89, 180, 0, 175, 90, 4]
abbrev dktX1_feed_3 : List UInt8 := dkwX1_feed_3 ++ dktX1_feed_4
def dkwX1_feed_2 : List UInt8 := [17, 0, 255, 126, 54, 8, 21, 8, 16, 10, 159, 0, 17, 21, 8, 16, 32, 161, 0, 39, 21, 8, 16, 126]
abbrev dktX1_feed_2 : List UInt8 := dkwX1_feed_2 ++ dktX1_feed_3
def dkwX1_feed_1 : List UInt8 := [16, 16, 162, 0, 7, 33, 167, 0, 5, 22, 5, 16, 56, 16, 8, 21, 7, 16, 8, 112, 104, 100, 123, 136]
abbrev dktX1_feed_1 : List UInt8 := dkwX1_feed_1 ++ dktX1_feed_2
def dkwX1_feed_0 : List UInt8 := [3, 54, 7, 21, 7, 16, 24, 162, 0, 102, 21, 7, 16, 8, 162, 0, 7, 31, 167, 0, 16, 21, 7]
abbrev dktX1_feed_0 : List UInt8 := dkwX1_feed_0 ++ dktX1_feed_1
theorem dksX1_feed_0 : cX1_feed.data.toList.drop 0 = dktX1_feed_0 := by decide +kernel
theorem dksX1_feed_1 : cX1_feed.data.toList.drop 23 = dktX1_feed_1 := dk_seg dksX1_feed_0 23 rfl rfl
theorem dksX1_feed_2 : cX1_feed.data.toList.drop 47 = dktX1_feed_2 := dk_seg dksX1_feed_1 24 rfl rfl
theorem dksX1_feed_3 : cX1_feed.data.toList.drop 71 = dktX1_feed_3 := dk_seg dksX1_feed_2 24 rfl rfl
theorem dksX1_feed_4 : cX1_feed.data.toList.drop 95 = dktX1_feed_4 := dk_seg dksX1_feed_3 24 rfl rfl
theorem dX1_feed_0 : decode cX1_feed 0 = .ok (.iconst 0, 1) := dk_3 (dk_at dksX1_feed_0 0 rfl rfl)
theorem dX1_feed_1 : decode cX1_feed 1 = .ok (.istore 7, 2) := dk_54 7 (dk_at dksX1_feed_0 1 rfl rfl)
theorem dX1_feed_3 : decode cX1_feed 3 = .ok (.iload 7, 2) := dk_21 7 (dk_at dksX1_feed_0 3 rfl rfl)
theorem dX1_feed_5 : decode cX1_feed 5 = .ok (.bipush 24, 2) := dk_16 24 (dk_at dksX1_feed_0 5 rfl rfl)
theorem dX1_feed_7 : decode cX1_feed 7 = .ok (.if_icmp .ge 102, 3) := dk_162 0 102 (dk_at dksX1_feed_0 7 rfl rfl)
theorem dX1_feed_10 : decode cX1_feed 10 = .ok (.iload 7, 2) := dk_21 7 (dk_at dksX1_feed_0 10 rfl rfl)
theorem dX1_feed_12 : decode cX1_feed 12 = .ok (.bipush 8, 2) := dk_16 8 (dk_at dksX1_feed_0 12 rfl rfl)
theorem dX1_feed_14 : decode cX1_feed 14 = .ok (.if_icmp .ge 7, 3) := dk_162 0 7 (dk_at dksX1_feed_0 14 rfl rfl)
theorem dX1_feed_17 : decode cX1_feed 17 = .ok (.lload_n 1, 1) := dk_31 (dk_at dksX1_feed_0 17 rfl rfl)
theorem dX1_feed_18 : decode cX1_feed 18 = .ok (.goto 16, 3) := dk_167 0 16 (dk_at dksX1_feed_0 18 rfl rfl)
theorem dX1_feed_21 : decode cX1_feed 21 = .ok (.iload 7, 2) := dk_21 7 (dk_at dksX1_feed_0 21 rfl rfl)
theorem dX1_feed_23 : decode cX1_feed 23 = .ok (.bipush 16, 2) := dk_16 16 (dk_at dksX1_feed_1 0 rfl rfl)
theorem dX1_feed_25 : decode cX1_feed 25 = .ok (.if_icmp .ge 7, 3) := dk_162 0 7 (dk_at dksX1_feed_1 2 rfl rfl)
theorem dX1_feed_28 : decode cX1_feed 28 = .ok (.lload_n 3, 1) := dk_33 (dk_at dksX1_feed_1 5 rfl rfl)
theorem dX1_feed_29 : decode cX1_feed 29 = .ok (.goto 5, 3) := dk_167 0 5 (dk_at dksX1_feed_1 6 rfl rfl)
theorem dX1_feed_32 : decode cX1_feed 32 = .ok (.lload 5, 2) := dk_22 5 (dk_at dksX1_feed_1 9 rfl rfl)
theorem dX1_feed_34 : decode cX1_feed 34 = .ok (.bipush 56, 2) := dk_16 56 (dk_at dksX1_feed_1 11 rfl rfl)
theorem dX1_feed_36 : decode cX1_feed 36 = .ok (.bipush 8, 2) := dk_16 8 (dk_at dksX1_feed_1 13 rfl rfl)
theorem dX1_feed_38 : decode cX1_feed 38 = .ok (.iload 7, 2) := dk_21 7 (dk_at dksX1_feed_1 15 rfl rfl)
theorem dX1_feed_40 : decode cX1_feed 40 = .ok (.bipush 8, 2) := dk_16 8 (dk_at dksX1_feed_1 17 rfl rfl)
theorem dX1_feed_42 : decode cX1_feed 42 = .ok (.irem, 1) := dk_112 (dk_at dksX1_feed_1 19 rfl rfl)
theorem dX1_feed_43 : decode cX1_feed 43 = .ok (.imul, 1) := dk_104 (dk_at dksX1_feed_1 20 rfl rfl)
theorem dX1_feed_44 : decode cX1_feed 44 = .ok (.isub, 1) := dk_100 (dk_at dksX1_feed_1 21 rfl rfl)
theorem dX1_feed_45 : decode cX1_feed 45 = .ok (.lshr, 1) := dk_123 (dk_at dksX1_feed_1 22 rfl rfl)
theorem dX1_feed_46 : decode cX1_feed 46 = .ok (.l2i, 1) := dk_136 (dk_at dksX1_feed_1 23 rfl rfl)
theorem dX1_feed_47 : decode cX1_feed 47 = .ok (.sipush 255, 3) := dk_17 0 255 (dk_at dksX1_feed_2 0 rfl rfl)
theorem dX1_feed_50 : decode cX1_feed 50 = .ok (.iand, 1) := dk_126 (dk_at dksX1_feed_2 3 rfl rfl)
theorem dX1_feed_51 : decode cX1_feed 51 = .ok (.istore 8, 2) := dk_54 8 (dk_at dksX1_feed_2 4 rfl rfl)
theorem dX1_feed_53 : decode cX1_feed 53 = .ok (.iload 8, 2) := dk_21 8 (dk_at dksX1_feed_2 6 rfl rfl)
theorem dX1_feed_55 : decode cX1_feed 55 = .ok (.bipush 10, 2) := dk_16 10 (dk_at dksX1_feed_2 8 rfl rfl)
theorem dX1_feed_57 : decode cX1_feed 57 = .ok (.if_icmp .eq 17, 3) := dk_159 0 17 (dk_at dksX1_feed_2 10 rfl rfl)
theorem dX1_feed_60 : decode cX1_feed 60 = .ok (.iload 8, 2) := dk_21 8 (dk_at dksX1_feed_2 13 rfl rfl)
theorem dX1_feed_62 : decode cX1_feed 62 = .ok (.bipush 32, 2) := dk_16 32 (dk_at dksX1_feed_2 15 rfl rfl)
theorem dX1_feed_64 : decode cX1_feed 64 = .ok (.if_icmp .lt 39, 3) := dk_161 0 39 (dk_at dksX1_feed_2 17 rfl rfl)
theorem dX1_feed_67 : decode cX1_feed 67 = .ok (.iload 8, 2) := dk_21 8 (dk_at dksX1_feed_2 20 rfl rfl)
theorem dX1_feed_69 : decode cX1_feed 69 = .ok (.bipush 126, 2) := dk_16 126 (dk_at dksX1_feed_2 22 rfl rfl)
theorem dX1_feed_71 : decode cX1_feed 71 = .ok (.if_icmp .gt 32, 3) := dk_163 0 32 (dk_at dksX1_feed_3 0 rfl rfl)
theorem dX1_feed_74 : decode cX1_feed 74 = .ok (.aload_n 0, 1) := dk_42 (dk_at dksX1_feed_3 3 rfl rfl)
theorem dX1_feed_75 : decode cX1_feed 75 = .ok (.getfield 175, 3) := dk_180 0 175 (dk_at dksX1_feed_3 4 rfl rfl)
theorem dX1_feed_78 : decode cX1_feed 78 = .ok (.sipush 1000, 3) := dk_17 3 232 (dk_at dksX1_feed_3 7 rfl rfl)
theorem dX1_feed_81 : decode cX1_feed 81 = .ok (.if_icmp .ge 22, 3) := dk_162 0 22 (dk_at dksX1_feed_3 10 rfl rfl)
theorem dX1_feed_84 : decode cX1_feed 84 = .ok (.aload_n 0, 1) := dk_42 (dk_at dksX1_feed_3 13 rfl rfl)
theorem dX1_feed_85 : decode cX1_feed 85 = .ok (.getfield 49, 3) := dk_180 0 49 (dk_at dksX1_feed_3 14 rfl rfl)
theorem dX1_feed_88 : decode cX1_feed 88 = .ok (.aload_n 0, 1) := dk_42 (dk_at dksX1_feed_3 17 rfl rfl)
theorem dX1_feed_89 : decode cX1_feed 89 = .ok (.dup, 1) := dk_89 (dk_at dksX1_feed_3 18 rfl rfl)
theorem dX1_feed_90 : decode cX1_feed 90 = .ok (.getfield 175, 3) := dk_180 0 175 (dk_at dksX1_feed_3 19 rfl rfl)
theorem dX1_feed_93 : decode cX1_feed 93 = .ok (.dup_x1, 1) := dk_90 (dk_at dksX1_feed_3 22 rfl rfl)
theorem dX1_feed_94 : decode cX1_feed 94 = .ok (.iconst 1, 1) := dk_4 (dk_at dksX1_feed_3 23 rfl rfl)
theorem dX1_feed_95 : decode cX1_feed 95 = .ok (.iadd, 1) := dk_96 (dk_at dksX1_feed_4 0 rfl rfl)
theorem dX1_feed_96 : decode cX1_feed 96 = .ok (.putfield 175, 3) := dk_181 0 175 (dk_at dksX1_feed_4 1 rfl rfl)
theorem dX1_feed_99 : decode cX1_feed 99 = .ok (.iload 8, 2) := dk_21 8 (dk_at dksX1_feed_4 4 rfl rfl)
theorem dX1_feed_101 : decode cX1_feed 101 = .ok (.i2b, 1) := dk_145 (dk_at dksX1_feed_4 6 rfl rfl)
theorem dX1_feed_102 : decode cX1_feed 102 = .ok (.bastore, 1) := dk_84 (dk_at dksX1_feed_4 7 rfl rfl)
theorem dX1_feed_103 : decode cX1_feed 103 = .ok (.iinc 7 1, 3) := dk_132 7 1 (dk_at dksX1_feed_4 8 rfl rfl)
theorem dX1_feed_106 : decode cX1_feed 106 = .ok (.goto (-103), 3) := dk_167 255 153 (dk_at dksX1_feed_4 11 rfl rfl)
theorem dX1_feed_109 : decode cX1_feed 109 = .ok (.aload_n 0, 1) := dk_42 (dk_at dksX1_feed_4 14 rfl rfl)
theorem dX1_feed_110 : decode cX1_feed 110 = .ok (.getfield 175, 3) := dk_180 0 175 (dk_at dksX1_feed_4 15 rfl rfl)
theorem dX1_feed_113 : decode cX1_feed 113 = .ok (.ireturn, 1) := dk_172 (dk_at dksX1_feed_4 18 rfl rfl)
abbrev cX1_brief : ByteArray := prog_1_method_19_code
def yX1_brief : MethodName := ⟨RX1, "brief", "(II)I"⟩
def dkwX1_brief_3 : List UInt8 := [182, 0, 133, 87, 167, 0, 11, 58, 4, 25, 4, 180, 0, 191, 172, 42, 182, 0, 117, 87, 3, 172]
abbrev dktX1_brief_3 : List UInt8 := dkwX1_brief_3 ++ []
def dkwX1_brief_2 : List UInt8 := [180, 0, 49, 29, 42, 180, 0, 110, 27, 28, 182, 0, 181, 42, 180, 0, 46, 42, 180, 0, 56, 182, 0, 185]
abbrev dktX1_brief_2 : List UInt8 := dkwX1_brief_2 ++ dktX1_brief_3
def dkwX1_brief_1 : List UInt8 := [153, 0, 15, 42, 180, 0, 46, 182, 0, 121, 16, 16, 160, 0, 5, 2, 172, 42, 180, 0, 56, 42]
abbrev dktX1_brief_1 : List UInt8 := dkwX1_brief_1 ++ dktX1_brief_2
def dkwX1_brief_0 : List UInt8 := [42, 180, 0, 175, 62, 42, 3, 181, 0, 175, 27, 3, 6, 184, 0, 113, 153, 0, 22, 28, 184, 0, 178]
abbrev dktX1_brief_0 : List UInt8 := dkwX1_brief_0 ++ dktX1_brief_1
theorem dksX1_brief_0 : cX1_brief.data.toList.drop 0 = dktX1_brief_0 := by decide +kernel
theorem dksX1_brief_1 : cX1_brief.data.toList.drop 23 = dktX1_brief_1 := dk_seg dksX1_brief_0 23 rfl rfl
theorem dksX1_brief_2 : cX1_brief.data.toList.drop 45 = dktX1_brief_2 := dk_seg dksX1_brief_1 22 rfl rfl
theorem dksX1_brief_3 : cX1_brief.data.toList.drop 69 = dktX1_brief_3 := dk_seg dksX1_brief_2 24 rfl rfl
theorem dX1_brief_0 : decode cX1_brief 0 = .ok (.aload_n 0, 1) := dk_42 (dk_at dksX1_brief_0 0 rfl rfl)
theorem dX1_brief_1 : decode cX1_brief 1 = .ok (.getfield 175, 3) := dk_180 0 175 (dk_at dksX1_brief_0 1 rfl rfl)
theorem dX1_brief_4 : decode cX1_brief 4 = .ok (.istore_n 3, 1) := dk_62 (dk_at dksX1_brief_0 4 rfl rfl)
theorem dX1_brief_5 : decode cX1_brief 5 = .ok (.aload_n 0, 1) := dk_42 (dk_at dksX1_brief_0 5 rfl rfl)
theorem dX1_brief_6 : decode cX1_brief 6 = .ok (.iconst 0, 1) := dk_3 (dk_at dksX1_brief_0 6 rfl rfl)
theorem dX1_brief_7 : decode cX1_brief 7 = .ok (.putfield 175, 3) := dk_181 0 175 (dk_at dksX1_brief_0 7 rfl rfl)
theorem dX1_brief_10 : decode cX1_brief 10 = .ok (.iload_n 1, 1) := dk_27 (dk_at dksX1_brief_0 10 rfl rfl)
theorem dX1_brief_11 : decode cX1_brief 11 = .ok (.iconst 0, 1) := dk_3 (dk_at dksX1_brief_0 11 rfl rfl)
theorem dX1_brief_12 : decode cX1_brief 12 = .ok (.iconst 3, 1) := dk_6 (dk_at dksX1_brief_0 12 rfl rfl)
theorem dX1_brief_13 : decode cX1_brief 13 = .ok (.invokestatic 113, 3) := dk_184 0 113 (dk_at dksX1_brief_0 13 rfl rfl)
theorem dX1_brief_16 : decode cX1_brief 16 = .ok (.ifCond .eq 22, 3) := dk_153 0 22 (dk_at dksX1_brief_0 16 rfl rfl)
theorem dX1_brief_19 : decode cX1_brief 19 = .ok (.iload_n 2, 1) := dk_28 (dk_at dksX1_brief_0 19 rfl rfl)
theorem dX1_brief_20 : decode cX1_brief 20 = .ok (.invokestatic 178, 3) := dk_184 0 178 (dk_at dksX1_brief_0 20 rfl rfl)
theorem dX1_brief_23 : decode cX1_brief 23 = .ok (.ifCond .eq 15, 3) := dk_153 0 15 (dk_at dksX1_brief_1 0 rfl rfl)
theorem dX1_brief_26 : decode cX1_brief 26 = .ok (.aload_n 0, 1) := dk_42 (dk_at dksX1_brief_1 3 rfl rfl)
theorem dX1_brief_27 : decode cX1_brief 27 = .ok (.getfield 46, 3) := dk_180 0 46 (dk_at dksX1_brief_1 4 rfl rfl)
theorem dX1_brief_30 : decode cX1_brief 30 = .ok (.invokevirtual 121, 3) := dk_182 0 121 (dk_at dksX1_brief_1 7 rfl rfl)
theorem dX1_brief_33 : decode cX1_brief 33 = .ok (.bipush 16, 2) := dk_16 16 (dk_at dksX1_brief_1 10 rfl rfl)
theorem dX1_brief_35 : decode cX1_brief 35 = .ok (.if_icmp .ne 5, 3) := dk_160 0 5 (dk_at dksX1_brief_1 12 rfl rfl)
theorem dX1_brief_38 : decode cX1_brief 38 = .ok (.iconst (-1), 1) := dk_2 (dk_at dksX1_brief_1 15 rfl rfl)
theorem dX1_brief_39 : decode cX1_brief 39 = .ok (.ireturn, 1) := dk_172 (dk_at dksX1_brief_1 16 rfl rfl)
theorem dX1_brief_40 : decode cX1_brief 40 = .ok (.aload_n 0, 1) := dk_42 (dk_at dksX1_brief_1 17 rfl rfl)
theorem dX1_brief_41 : decode cX1_brief 41 = .ok (.getfield 56, 3) := dk_180 0 56 (dk_at dksX1_brief_1 18 rfl rfl)
theorem dX1_brief_44 : decode cX1_brief 44 = .ok (.aload_n 0, 1) := dk_42 (dk_at dksX1_brief_1 21 rfl rfl)
theorem dX1_brief_45 : decode cX1_brief 45 = .ok (.getfield 49, 3) := dk_180 0 49 (dk_at dksX1_brief_2 0 rfl rfl)
theorem dX1_brief_48 : decode cX1_brief 48 = .ok (.iload_n 3, 1) := dk_29 (dk_at dksX1_brief_2 3 rfl rfl)
theorem dX1_brief_49 : decode cX1_brief 49 = .ok (.aload_n 0, 1) := dk_42 (dk_at dksX1_brief_2 4 rfl rfl)
theorem dX1_brief_50 : decode cX1_brief 50 = .ok (.getfield 110, 3) := dk_180 0 110 (dk_at dksX1_brief_2 5 rfl rfl)
theorem dX1_brief_53 : decode cX1_brief 53 = .ok (.iload_n 1, 1) := dk_27 (dk_at dksX1_brief_2 8 rfl rfl)
theorem dX1_brief_54 : decode cX1_brief 54 = .ok (.iload_n 2, 1) := dk_28 (dk_at dksX1_brief_2 9 rfl rfl)
theorem dX1_brief_55 : decode cX1_brief 55 = .ok (.invokevirtual 181, 3) := dk_182 0 181 (dk_at dksX1_brief_2 10 rfl rfl)
theorem dX1_brief_58 : decode cX1_brief 58 = .ok (.aload_n 0, 1) := dk_42 (dk_at dksX1_brief_2 13 rfl rfl)
theorem dX1_brief_59 : decode cX1_brief 59 = .ok (.getfield 46, 3) := dk_180 0 46 (dk_at dksX1_brief_2 14 rfl rfl)
theorem dX1_brief_62 : decode cX1_brief 62 = .ok (.aload_n 0, 1) := dk_42 (dk_at dksX1_brief_2 17 rfl rfl)
theorem dX1_brief_63 : decode cX1_brief 63 = .ok (.getfield 56, 3) := dk_180 0 56 (dk_at dksX1_brief_2 18 rfl rfl)
theorem dX1_brief_66 : decode cX1_brief 66 = .ok (.invokevirtual 185, 3) := dk_182 0 185 (dk_at dksX1_brief_2 21 rfl rfl)
theorem dX1_brief_69 : decode cX1_brief 69 = .ok (.invokevirtual 133, 3) := dk_182 0 133 (dk_at dksX1_brief_3 0 rfl rfl)
theorem dX1_brief_72 : decode cX1_brief 72 = .ok (.pop, 1) := dk_87 (dk_at dksX1_brief_3 3 rfl rfl)
theorem dX1_brief_73 : decode cX1_brief 73 = .ok (.goto 11, 3) := dk_167 0 11 (dk_at dksX1_brief_3 4 rfl rfl)
theorem dX1_brief_76 : decode cX1_brief 76 = .ok (.astore 4, 2) := dk_58 4 (dk_at dksX1_brief_3 7 rfl rfl)
theorem dX1_brief_78 : decode cX1_brief 78 = .ok (.aload 4, 2) := dk_25 4 (dk_at dksX1_brief_3 9 rfl rfl)
theorem dX1_brief_80 : decode cX1_brief 80 = .ok (.getfield 191, 3) := dk_180 0 191 (dk_at dksX1_brief_3 11 rfl rfl)
theorem dX1_brief_83 : decode cX1_brief 83 = .ok (.ireturn, 1) := dk_172 (dk_at dksX1_brief_3 14 rfl rfl)
theorem dX1_brief_84 : decode cX1_brief 84 = .ok (.aload_n 0, 1) := dk_42 (dk_at dksX1_brief_3 15 rfl rfl)
theorem dX1_brief_85 : decode cX1_brief 85 = .ok (.invokevirtual 117, 3) := dk_182 0 117 (dk_at dksX1_brief_3 16 rfl rfl)
theorem dX1_brief_88 : decode cX1_brief 88 = .ok (.pop, 1) := dk_87 (dk_at dksX1_brief_3 19 rfl rfl)
theorem dX1_brief_89 : decode cX1_brief 89 = .ok (.iconst 0, 1) := dk_3 (dk_at dksX1_brief_3 20 rfl rfl)
theorem dX1_brief_90 : decode cX1_brief 90 = .ok (.ireturn, 1) := dk_172 (dk_at dksX1_brief_3 21 rfl rfl)
abbrev cX1_isDay : ByteArray := prog_1_method_15_code
def yX1_isDay : MethodName := ⟨RX1, "isDay", "(I)Z"⟩
def dkwX1_isDay_0 : List UInt8 := [26, 3, 17, 39, 15, 184, 0, 113, 172]
abbrev dktX1_isDay_0 : List UInt8 := dkwX1_isDay_0 ++ []
theorem dksX1_isDay_0 : cX1_isDay.data.toList.drop 0 = dktX1_isDay_0 := by decide +kernel
theorem dX1_isDay_0 : decode cX1_isDay 0 = .ok (.iload_n 0, 1) := dk_26 (dk_at dksX1_isDay_0 0 rfl rfl)
theorem dX1_isDay_1 : decode cX1_isDay 1 = .ok (.iconst 0, 1) := dk_3 (dk_at dksX1_isDay_0 1 rfl rfl)
theorem dX1_isDay_2 : decode cX1_isDay 2 = .ok (.sipush 9999, 3) := dk_17 39 15 (dk_at dksX1_isDay_0 2 rfl rfl)
theorem dX1_isDay_5 : decode cX1_isDay 5 = .ok (.invokestatic 113, 3) := dk_184 0 113 (dk_at dksX1_isDay_0 5 rfl rfl)
theorem dX1_isDay_8 : decode cX1_isDay 8 = .ok (.ireturn, 1) := dk_172 (dk_at dksX1_isDay_0 8 rfl rfl)
abbrev cX1_fewest : ByteArray := prog_1_method_28_code
def yX1_fewest : MethodName := ⟨RX1, "fewest", "(II)I"⟩
def dkwX1_fewest_1 : List UInt8 := [3, 182, 0, 208, 172]
abbrev dktX1_fewest_1 : List UInt8 := dkwX1_fewest_1 ++ []
def dkwX1_fewest_0 : List UInt8 := [42, 27, 182, 0, 141, 153, 0, 10, 28, 184, 0, 178, 154, 0, 5, 2, 172, 42, 182, 1, 37, 42, 27, 28]
abbrev dktX1_fewest_0 : List UInt8 := dkwX1_fewest_0 ++ dktX1_fewest_1
theorem dksX1_fewest_0 : cX1_fewest.data.toList.drop 0 = dktX1_fewest_0 := by decide +kernel
theorem dksX1_fewest_1 : cX1_fewest.data.toList.drop 24 = dktX1_fewest_1 := dk_seg dksX1_fewest_0 24 rfl rfl
theorem dX1_fewest_0 : decode cX1_fewest 0 = .ok (.aload_n 0, 1) := dk_42 (dk_at dksX1_fewest_0 0 rfl rfl)
theorem dX1_fewest_1 : decode cX1_fewest 1 = .ok (.iload_n 1, 1) := dk_27 (dk_at dksX1_fewest_0 1 rfl rfl)
theorem dX1_fewest_2 : decode cX1_fewest 2 = .ok (.invokevirtual 141, 3) := dk_182 0 141 (dk_at dksX1_fewest_0 2 rfl rfl)
theorem dX1_fewest_5 : decode cX1_fewest 5 = .ok (.ifCond .eq 10, 3) := dk_153 0 10 (dk_at dksX1_fewest_0 5 rfl rfl)
theorem dX1_fewest_8 : decode cX1_fewest 8 = .ok (.iload_n 2, 1) := dk_28 (dk_at dksX1_fewest_0 8 rfl rfl)
theorem dX1_fewest_9 : decode cX1_fewest 9 = .ok (.invokestatic 178, 3) := dk_184 0 178 (dk_at dksX1_fewest_0 9 rfl rfl)
theorem dX1_fewest_12 : decode cX1_fewest 12 = .ok (.ifCond .ne 5, 3) := dk_154 0 5 (dk_at dksX1_fewest_0 12 rfl rfl)
theorem dX1_fewest_15 : decode cX1_fewest 15 = .ok (.iconst (-1), 1) := dk_2 (dk_at dksX1_fewest_0 15 rfl rfl)
theorem dX1_fewest_16 : decode cX1_fewest 16 = .ok (.ireturn, 1) := dk_172 (dk_at dksX1_fewest_0 16 rfl rfl)
theorem dX1_fewest_17 : decode cX1_fewest 17 = .ok (.aload_n 0, 1) := dk_42 (dk_at dksX1_fewest_0 17 rfl rfl)
theorem dX1_fewest_18 : decode cX1_fewest 18 = .ok (.invokevirtual 293, 3) := dk_182 1 37 (dk_at dksX1_fewest_0 18 rfl rfl)
theorem dX1_fewest_21 : decode cX1_fewest 21 = .ok (.aload_n 0, 1) := dk_42 (dk_at dksX1_fewest_0 21 rfl rfl)
theorem dX1_fewest_22 : decode cX1_fewest 22 = .ok (.iload_n 1, 1) := dk_27 (dk_at dksX1_fewest_0 22 rfl rfl)
theorem dX1_fewest_23 : decode cX1_fewest 23 = .ok (.iload_n 2, 1) := dk_28 (dk_at dksX1_fewest_0 23 rfl rfl)
theorem dX1_fewest_24 : decode cX1_fewest 24 = .ok (.iconst 0, 1) := dk_3 (dk_at dksX1_fewest_1 0 rfl rfl)
theorem dX1_fewest_25 : decode cX1_fewest 25 = .ok (.invokevirtual 208, 3) := dk_182 0 208 (dk_at dksX1_fewest_1 1 rfl rfl)
theorem dX1_fewest_28 : decode cX1_fewest 28 = .ok (.ireturn, 1) := dk_172 (dk_at dksX1_fewest_1 4 rfl rfl)
abbrev cX1_works : ByteArray := prog_1_method_20_code
def yX1_works : MethodName := ⟨RX1, "works", "()V"⟩
def dkwX1_works_6 : List UInt8 := [182, 0, 212, 177]
abbrev dktX1_works_6 : List UInt8 := dkwX1_works_6 ++ []
def dkwX1_works_5 : List UInt8 := [153, 0, 17, 42, 44, 180, 0, 148, 44, 180, 0, 151, 4, 182, 0, 208, 87, 132, 1, 1, 167, 255, 208, 42]
abbrev dktX1_works_5 : List UInt8 := dkwX1_works_5 ++ dktX1_works_6
def dkwX1_works_4 : List UInt8 := [182, 0, 121, 162, 0, 43, 42, 180, 0, 71, 27, 182, 0, 144, 192, 0, 81, 77, 42, 44, 182, 0, 204]
abbrev dktX1_works_4 : List UInt8 := dkwX1_works_4 ++ dktX1_works_5
def dkwX1_works_3 : List UInt8 := [27, 182, 0, 144, 192, 0, 81, 182, 0, 201, 132, 1, 1, 167, 255, 227, 3, 60, 27, 42, 180, 0, 71]
abbrev dktX1_works_3 : List UInt8 := dkwX1_works_3 ++ dktX1_works_4
def dkwX1_works_2 : List UInt8 := [132, 1, 1, 167, 255, 227, 3, 60, 27, 42, 180, 0, 71, 182, 0, 121, 162, 0, 24, 42, 42, 180, 0, 71]
abbrev dktX1_works_2 : List UInt8 := dkwX1_works_2 ++ dktX1_works_3
def dkwX1_works_1 : List UInt8 := [180, 0, 40, 182, 0, 121, 162, 0, 24, 42, 42, 180, 0, 40, 27, 182, 0, 144, 192, 0, 81, 182, 0, 197]
abbrev dktX1_works_1 : List UInt8 := dkwX1_works_1 ++ dktX1_works_2
def dkwX1_works_0 : List UInt8 := [42, 180, 0, 67, 154, 0, 4, 177, 42, 3, 181, 0, 67, 42, 180, 0, 71, 182, 0, 194, 3, 60, 27, 42]
abbrev dktX1_works_0 : List UInt8 := dkwX1_works_0 ++ dktX1_works_1
theorem dksX1_works_0 : cX1_works.data.toList.drop 0 = dktX1_works_0 := by decide +kernel
theorem dksX1_works_1 : cX1_works.data.toList.drop 24 = dktX1_works_1 := dk_seg dksX1_works_0 24 rfl rfl
theorem dksX1_works_2 : cX1_works.data.toList.drop 48 = dktX1_works_2 := dk_seg dksX1_works_1 24 rfl rfl
theorem dksX1_works_3 : cX1_works.data.toList.drop 72 = dktX1_works_3 := dk_seg dksX1_works_2 24 rfl rfl
theorem dksX1_works_4 : cX1_works.data.toList.drop 95 = dktX1_works_4 := dk_seg dksX1_works_3 23 rfl rfl
theorem dksX1_works_5 : cX1_works.data.toList.drop 118 = dktX1_works_5 := dk_seg dksX1_works_4 23 rfl rfl
theorem dksX1_works_6 : cX1_works.data.toList.drop 142 = dktX1_works_6 := dk_seg dksX1_works_5 24 rfl rfl
theorem dX1_works_0 : decode cX1_works 0 = .ok (.aload_n 0, 1) := dk_42 (dk_at dksX1_works_0 0 rfl rfl)
theorem dX1_works_1 : decode cX1_works 1 = .ok (.getfield 67, 3) := dk_180 0 67 (dk_at dksX1_works_0 1 rfl rfl)
theorem dX1_works_4 : decode cX1_works 4 = .ok (.ifCond .ne 4, 3) := dk_154 0 4 (dk_at dksX1_works_0 4 rfl rfl)
theorem dX1_works_7 : decode cX1_works 7 = .ok (.return_, 1) := dk_177 (dk_at dksX1_works_0 7 rfl rfl)
theorem dX1_works_8 : decode cX1_works 8 = .ok (.aload_n 0, 1) := dk_42 (dk_at dksX1_works_0 8 rfl rfl)
theorem dX1_works_9 : decode cX1_works 9 = .ok (.iconst 0, 1) := dk_3 (dk_at dksX1_works_0 9 rfl rfl)
theorem dX1_works_10 : decode cX1_works 10 = .ok (.putfield 67, 3) := dk_181 0 67 (dk_at dksX1_works_0 10 rfl rfl)
theorem dX1_works_13 : decode cX1_works 13 = .ok (.aload_n 0, 1) := dk_42 (dk_at dksX1_works_0 13 rfl rfl)
theorem dX1_works_14 : decode cX1_works 14 = .ok (.getfield 71, 3) := dk_180 0 71 (dk_at dksX1_works_0 14 rfl rfl)
theorem dX1_works_17 : decode cX1_works 17 = .ok (.invokevirtual 194, 3) := dk_182 0 194 (dk_at dksX1_works_0 17 rfl rfl)
theorem dX1_works_20 : decode cX1_works 20 = .ok (.iconst 0, 1) := dk_3 (dk_at dksX1_works_0 20 rfl rfl)
theorem dX1_works_21 : decode cX1_works 21 = .ok (.istore_n 1, 1) := dk_60 (dk_at dksX1_works_0 21 rfl rfl)
theorem dX1_works_22 : decode cX1_works 22 = .ok (.iload_n 1, 1) := dk_27 (dk_at dksX1_works_0 22 rfl rfl)
theorem dX1_works_23 : decode cX1_works 23 = .ok (.aload_n 0, 1) := dk_42 (dk_at dksX1_works_0 23 rfl rfl)
theorem dX1_works_24 : decode cX1_works 24 = .ok (.getfield 40, 3) := dk_180 0 40 (dk_at dksX1_works_1 0 rfl rfl)
theorem dX1_works_27 : decode cX1_works 27 = .ok (.invokevirtual 121, 3) := dk_182 0 121 (dk_at dksX1_works_1 3 rfl rfl)
theorem dX1_works_30 : decode cX1_works 30 = .ok (.if_icmp .ge 24, 3) := dk_162 0 24 (dk_at dksX1_works_1 6 rfl rfl)
theorem dX1_works_33 : decode cX1_works 33 = .ok (.aload_n 0, 1) := dk_42 (dk_at dksX1_works_1 9 rfl rfl)
theorem dX1_works_34 : decode cX1_works 34 = .ok (.aload_n 0, 1) := dk_42 (dk_at dksX1_works_1 10 rfl rfl)
theorem dX1_works_35 : decode cX1_works 35 = .ok (.getfield 40, 3) := dk_180 0 40 (dk_at dksX1_works_1 11 rfl rfl)
theorem dX1_works_38 : decode cX1_works 38 = .ok (.iload_n 1, 1) := dk_27 (dk_at dksX1_works_1 14 rfl rfl)
theorem dX1_works_39 : decode cX1_works 39 = .ok (.invokevirtual 144, 3) := dk_182 0 144 (dk_at dksX1_works_1 15 rfl rfl)
theorem dX1_works_42 : decode cX1_works 42 = .ok (.checkcast 81, 3) := dk_192 0 81 (dk_at dksX1_works_1 18 rfl rfl)
theorem dX1_works_45 : decode cX1_works 45 = .ok (.invokevirtual 197, 3) := dk_182 0 197 (dk_at dksX1_works_1 21 rfl rfl)
theorem dX1_works_48 : decode cX1_works 48 = .ok (.iinc 1 1, 3) := dk_132 1 1 (dk_at dksX1_works_2 0 rfl rfl)
theorem dX1_works_51 : decode cX1_works 51 = .ok (.goto (-29), 3) := dk_167 255 227 (dk_at dksX1_works_2 3 rfl rfl)
theorem dX1_works_54 : decode cX1_works 54 = .ok (.iconst 0, 1) := dk_3 (dk_at dksX1_works_2 6 rfl rfl)
theorem dX1_works_55 : decode cX1_works 55 = .ok (.istore_n 1, 1) := dk_60 (dk_at dksX1_works_2 7 rfl rfl)
theorem dX1_works_56 : decode cX1_works 56 = .ok (.iload_n 1, 1) := dk_27 (dk_at dksX1_works_2 8 rfl rfl)
theorem dX1_works_57 : decode cX1_works 57 = .ok (.aload_n 0, 1) := dk_42 (dk_at dksX1_works_2 9 rfl rfl)
theorem dX1_works_58 : decode cX1_works 58 = .ok (.getfield 71, 3) := dk_180 0 71 (dk_at dksX1_works_2 10 rfl rfl)
theorem dX1_works_61 : decode cX1_works 61 = .ok (.invokevirtual 121, 3) := dk_182 0 121 (dk_at dksX1_works_2 13 rfl rfl)
theorem dX1_works_64 : decode cX1_works 64 = .ok (.if_icmp .ge 24, 3) := dk_162 0 24 (dk_at dksX1_works_2 16 rfl rfl)
theorem dX1_works_67 : decode cX1_works 67 = .ok (.aload_n 0, 1) := dk_42 (dk_at dksX1_works_2 19 rfl rfl)
theorem dX1_works_68 : decode cX1_works 68 = .ok (.aload_n 0, 1) := dk_42 (dk_at dksX1_works_2 20 rfl rfl)
theorem dX1_works_69 : decode cX1_works 69 = .ok (.getfield 71, 3) := dk_180 0 71 (dk_at dksX1_works_2 21 rfl rfl)
theorem dX1_works_72 : decode cX1_works 72 = .ok (.iload_n 1, 1) := dk_27 (dk_at dksX1_works_3 0 rfl rfl)
theorem dX1_works_73 : decode cX1_works 73 = .ok (.invokevirtual 144, 3) := dk_182 0 144 (dk_at dksX1_works_3 1 rfl rfl)
theorem dX1_works_76 : decode cX1_works 76 = .ok (.checkcast 81, 3) := dk_192 0 81 (dk_at dksX1_works_3 4 rfl rfl)
theorem dX1_works_79 : decode cX1_works 79 = .ok (.invokevirtual 201, 3) := dk_182 0 201 (dk_at dksX1_works_3 7 rfl rfl)
theorem dX1_works_82 : decode cX1_works 82 = .ok (.iinc 1 1, 3) := dk_132 1 1 (dk_at dksX1_works_3 10 rfl rfl)
theorem dX1_works_85 : decode cX1_works 85 = .ok (.goto (-29), 3) := dk_167 255 227 (dk_at dksX1_works_3 13 rfl rfl)
theorem dX1_works_88 : decode cX1_works 88 = .ok (.iconst 0, 1) := dk_3 (dk_at dksX1_works_3 16 rfl rfl)
theorem dX1_works_89 : decode cX1_works 89 = .ok (.istore_n 1, 1) := dk_60 (dk_at dksX1_works_3 17 rfl rfl)
theorem dX1_works_90 : decode cX1_works 90 = .ok (.iload_n 1, 1) := dk_27 (dk_at dksX1_works_3 18 rfl rfl)
theorem dX1_works_91 : decode cX1_works 91 = .ok (.aload_n 0, 1) := dk_42 (dk_at dksX1_works_3 19 rfl rfl)
theorem dX1_works_92 : decode cX1_works 92 = .ok (.getfield 71, 3) := dk_180 0 71 (dk_at dksX1_works_3 20 rfl rfl)
theorem dX1_works_95 : decode cX1_works 95 = .ok (.invokevirtual 121, 3) := dk_182 0 121 (dk_at dksX1_works_4 0 rfl rfl)
theorem dX1_works_98 : decode cX1_works 98 = .ok (.if_icmp .ge 43, 3) := dk_162 0 43 (dk_at dksX1_works_4 3 rfl rfl)
theorem dX1_works_101 : decode cX1_works 101 = .ok (.aload_n 0, 1) := dk_42 (dk_at dksX1_works_4 6 rfl rfl)
theorem dX1_works_102 : decode cX1_works 102 = .ok (.getfield 71, 3) := dk_180 0 71 (dk_at dksX1_works_4 7 rfl rfl)
theorem dX1_works_105 : decode cX1_works 105 = .ok (.iload_n 1, 1) := dk_27 (dk_at dksX1_works_4 10 rfl rfl)
theorem dX1_works_106 : decode cX1_works 106 = .ok (.invokevirtual 144, 3) := dk_182 0 144 (dk_at dksX1_works_4 11 rfl rfl)
theorem dX1_works_109 : decode cX1_works 109 = .ok (.checkcast 81, 3) := dk_192 0 81 (dk_at dksX1_works_4 14 rfl rfl)
theorem dX1_works_112 : decode cX1_works 112 = .ok (.astore_n 2, 1) := dk_77 (dk_at dksX1_works_4 17 rfl rfl)
theorem dX1_works_113 : decode cX1_works 113 = .ok (.aload_n 0, 1) := dk_42 (dk_at dksX1_works_4 18 rfl rfl)
theorem dX1_works_114 : decode cX1_works 114 = .ok (.aload_n 2, 1) := dk_44 (dk_at dksX1_works_4 19 rfl rfl)
theorem dX1_works_115 : decode cX1_works 115 = .ok (.invokevirtual 204, 3) := dk_182 0 204 (dk_at dksX1_works_4 20 rfl rfl)
theorem dX1_works_118 : decode cX1_works 118 = .ok (.ifCond .eq 17, 3) := dk_153 0 17 (dk_at dksX1_works_5 0 rfl rfl)
theorem dX1_works_121 : decode cX1_works 121 = .ok (.aload_n 0, 1) := dk_42 (dk_at dksX1_works_5 3 rfl rfl)
theorem dX1_works_122 : decode cX1_works 122 = .ok (.aload_n 2, 1) := dk_44 (dk_at dksX1_works_5 4 rfl rfl)
theorem dX1_works_123 : decode cX1_works 123 = .ok (.getfield 148, 3) := dk_180 0 148 (dk_at dksX1_works_5 5 rfl rfl)
theorem dX1_works_126 : decode cX1_works 126 = .ok (.aload_n 2, 1) := dk_44 (dk_at dksX1_works_5 8 rfl rfl)
theorem dX1_works_127 : decode cX1_works 127 = .ok (.getfield 151, 3) := dk_180 0 151 (dk_at dksX1_works_5 9 rfl rfl)
theorem dX1_works_130 : decode cX1_works 130 = .ok (.iconst 1, 1) := dk_4 (dk_at dksX1_works_5 12 rfl rfl)
theorem dX1_works_131 : decode cX1_works 131 = .ok (.invokevirtual 208, 3) := dk_182 0 208 (dk_at dksX1_works_5 13 rfl rfl)
theorem dX1_works_134 : decode cX1_works 134 = .ok (.pop, 1) := dk_87 (dk_at dksX1_works_5 16 rfl rfl)
theorem dX1_works_135 : decode cX1_works 135 = .ok (.iinc 1 1, 3) := dk_132 1 1 (dk_at dksX1_works_5 17 rfl rfl)
theorem dX1_works_138 : decode cX1_works 138 = .ok (.goto (-48), 3) := dk_167 255 208 (dk_at dksX1_works_5 20 rfl rfl)
theorem dX1_works_141 : decode cX1_works 141 = .ok (.aload_n 0, 1) := dk_42 (dk_at dksX1_works_5 23 rfl rfl)
theorem dX1_works_142 : decode cX1_works 142 = .ok (.invokevirtual 212, 3) := dk_182 0 212 (dk_at dksX1_works_6 0 rfl rfl)
theorem dX1_works_145 : decode cX1_works 145 = .ok (.return_, 1) := dk_177 (dk_at dksX1_works_6 3 rfl rfl)
abbrev cX1_sees : ByteArray := prog_1_method_21_code
def yX1_sees : MethodName := ⟨RX1, "sees", "(LSecretBuyers$Visit;)V"⟩
def dkwX1_sees_12 : List UInt8 := [182, 1, 1, 177]
abbrev dktX1_sees_12 : List UInt8 := dkwX1_sees_12 ++ []
def dkwX1_sees_11 : List UInt8 := [182, 0, 144, 192, 0, 81, 182, 0, 254, 153, 0, 9, 132, 2, 255, 167, 255, 229, 42, 180, 0, 71, 28, 43]
abbrev dktX1_sees_11 : List UInt8 := dkwX1_sees_11 ++ dktX1_sees_12
def dkwX1_sees_10 : List UInt8 := [167, 255, 168, 42, 180, 0, 71, 182, 0, 121, 61, 28, 158, 0, 29, 43, 42, 180, 0, 71, 28, 4, 100]
abbrev dktX1_sees_10 : List UInt8 := dkwX1_sees_10 ++ dktX1_sees_11
def dkwX1_sees_9 : List UInt8 := [45, 180, 0, 251, 43, 180, 0, 240, 180, 0, 251, 161, 0, 8, 43, 45, 181, 0, 240, 132, 2, 1]
abbrev dktX1_sees_9 : List UInt8 := dkwX1_sees_9 ++ dktX1_sees_10
def dkwX1_sees_8 : List UInt8 := [180, 0, 250, 160, 0, 40, 45, 180, 0, 251, 43, 180, 0, 151, 163, 0, 29, 43, 180, 0, 240, 198, 0, 17]
abbrev dktX1_sees_8 : List UInt8 := dkwX1_sees_8 ++ dktX1_sees_9
def dkwX1_sees_7 : List UInt8 := [192, 0, 244, 78, 45, 180, 0, 246, 42, 182, 0, 215, 163, 0, 54, 45, 180, 0, 247, 43, 180, 0, 160]
abbrev dktX1_sees_7 : List UInt8 := dkwX1_sees_7 ++ dktX1_sees_8
def dkwX1_sees_6 : List UInt8 := [181, 0, 240, 3, 61, 28, 42, 180, 0, 46, 182, 0, 121, 162, 0, 83, 42, 180, 0, 46, 28, 182, 0, 144]
abbrev dktX1_sees_6 : List UInt8 := dkwX1_sees_6 ++ dktX1_sees_7
def dkwX1_sees_5 : List UInt8 := [132, 2, 1, 167, 255, 178, 43, 43, 182, 0, 234, 153, 0, 7, 3, 167, 0, 4, 4, 181, 0, 237, 43, 1]
abbrev dktX1_sees_5 : List UInt8 := dkwX1_sees_5 ++ dktX1_sees_6
def dkwX1_sees_4 : List UInt8 := [180, 0, 223, 4, 42, 180, 0, 43, 28, 182, 0, 144, 192, 0, 170, 180, 0, 231, 120, 130, 181, 0, 223]
abbrev dktX1_sees_4 : List UInt8 := dkwX1_sees_4 ++ dktX1_sees_5
def dkwX1_sees_3 : List UInt8 := [180, 0, 43, 28, 182, 0, 144, 192, 0, 170, 180, 0, 230, 42, 182, 0, 215, 163, 0, 28, 43, 89]
abbrev dktX1_sees_3 : List UInt8 := dkwX1_sees_3 ++ dktX1_sees_4
def dkwX1_sees_2 : List UInt8 := [162, 0, 73, 42, 180, 0, 43, 28, 182, 0, 144, 192, 0, 170, 180, 0, 226, 43, 166, 0, 49, 42]
abbrev dktX1_sees_2 : List UInt8 := dkwX1_sees_2 ++ dktX1_sees_3
def dkwX1_sees_1 : List UInt8 := [154, 0, 4, 177, 43, 43, 180, 0, 220, 181, 0, 223, 3, 61, 28, 42, 180, 0, 43, 182, 0, 121]
abbrev dktX1_sees_1 : List UInt8 := dkwX1_sees_1 ++ dktX1_sees_2
def dkwX1_sees_0 : List UInt8 := [43, 43, 180, 0, 167, 42, 182, 0, 215, 163, 0, 7, 4, 167, 0, 4, 3, 181, 0, 217, 43, 180, 0, 217]
abbrev dktX1_sees_0 : List UInt8 := dkwX1_sees_0 ++ dktX1_sees_1
theorem dksX1_sees_0 : cX1_sees.data.toList.drop 0 = dktX1_sees_0 := by decide +kernel
theorem dksX1_sees_1 : cX1_sees.data.toList.drop 24 = dktX1_sees_1 := dk_seg dksX1_sees_0 24 rfl rfl
theorem dksX1_sees_2 : cX1_sees.data.toList.drop 46 = dktX1_sees_2 := dk_seg dksX1_sees_1 22 rfl rfl
theorem dksX1_sees_3 : cX1_sees.data.toList.drop 68 = dktX1_sees_3 := dk_seg dksX1_sees_2 22 rfl rfl
theorem dksX1_sees_4 : cX1_sees.data.toList.drop 90 = dktX1_sees_4 := dk_seg dksX1_sees_3 22 rfl rfl
theorem dksX1_sees_5 : cX1_sees.data.toList.drop 113 = dktX1_sees_5 := dk_seg dksX1_sees_4 23 rfl rfl
theorem dksX1_sees_6 : cX1_sees.data.toList.drop 137 = dktX1_sees_6 := dk_seg dksX1_sees_5 24 rfl rfl
theorem dksX1_sees_7 : cX1_sees.data.toList.drop 161 = dktX1_sees_7 := dk_seg dksX1_sees_6 24 rfl rfl
theorem dksX1_sees_8 : cX1_sees.data.toList.drop 184 = dktX1_sees_8 := dk_seg dksX1_sees_7 23 rfl rfl
theorem dksX1_sees_9 : cX1_sees.data.toList.drop 208 = dktX1_sees_9 := dk_seg dksX1_sees_8 24 rfl rfl
theorem dksX1_sees_10 : cX1_sees.data.toList.drop 230 = dktX1_sees_10 := dk_seg dksX1_sees_9 22 rfl rfl
theorem dksX1_sees_11 : cX1_sees.data.toList.drop 253 = dktX1_sees_11 := dk_seg dksX1_sees_10 23 rfl rfl
theorem dksX1_sees_12 : cX1_sees.data.toList.drop 277 = dktX1_sees_12 := dk_seg dksX1_sees_11 24 rfl rfl
theorem dX1_sees_0 : decode cX1_sees 0 = .ok (.aload_n 1, 1) := dk_43 (dk_at dksX1_sees_0 0 rfl rfl)
theorem dX1_sees_1 : decode cX1_sees 1 = .ok (.aload_n 1, 1) := dk_43 (dk_at dksX1_sees_0 1 rfl rfl)
theorem dX1_sees_2 : decode cX1_sees 2 = .ok (.getfield 167, 3) := dk_180 0 167 (dk_at dksX1_sees_0 2 rfl rfl)
theorem dX1_sees_5 : decode cX1_sees 5 = .ok (.aload_n 0, 1) := dk_42 (dk_at dksX1_sees_0 5 rfl rfl)
theorem dX1_sees_6 : decode cX1_sees 6 = .ok (.invokevirtual 215, 3) := dk_182 0 215 (dk_at dksX1_sees_0 6 rfl rfl)
theorem dX1_sees_9 : decode cX1_sees 9 = .ok (.if_icmp .gt 7, 3) := dk_163 0 7 (dk_at dksX1_sees_0 9 rfl rfl)
theorem dX1_sees_12 : decode cX1_sees 12 = .ok (.iconst 1, 1) := dk_4 (dk_at dksX1_sees_0 12 rfl rfl)
theorem dX1_sees_13 : decode cX1_sees 13 = .ok (.goto 4, 3) := dk_167 0 4 (dk_at dksX1_sees_0 13 rfl rfl)
theorem dX1_sees_16 : decode cX1_sees 16 = .ok (.iconst 0, 1) := dk_3 (dk_at dksX1_sees_0 16 rfl rfl)
theorem dX1_sees_17 : decode cX1_sees 17 = .ok (.putfield 217, 3) := dk_181 0 217 (dk_at dksX1_sees_0 17 rfl rfl)
theorem dX1_sees_20 : decode cX1_sees 20 = .ok (.aload_n 1, 1) := dk_43 (dk_at dksX1_sees_0 20 rfl rfl)
theorem dX1_sees_21 : decode cX1_sees 21 = .ok (.getfield 217, 3) := dk_180 0 217 (dk_at dksX1_sees_0 21 rfl rfl)
theorem dX1_sees_24 : decode cX1_sees 24 = .ok (.ifCond .ne 4, 3) := dk_154 0 4 (dk_at dksX1_sees_1 0 rfl rfl)
theorem dX1_sees_27 : decode cX1_sees 27 = .ok (.return_, 1) := dk_177 (dk_at dksX1_sees_1 3 rfl rfl)
theorem dX1_sees_28 : decode cX1_sees 28 = .ok (.aload_n 1, 1) := dk_43 (dk_at dksX1_sees_1 4 rfl rfl)
theorem dX1_sees_29 : decode cX1_sees 29 = .ok (.aload_n 1, 1) := dk_43 (dk_at dksX1_sees_1 5 rfl rfl)
theorem dX1_sees_30 : decode cX1_sees 30 = .ok (.getfield 220, 3) := dk_180 0 220 (dk_at dksX1_sees_1 6 rfl rfl)
theorem dX1_sees_33 : decode cX1_sees 33 = .ok (.putfield 223, 3) := dk_181 0 223 (dk_at dksX1_sees_1 9 rfl rfl)
theorem dX1_sees_36 : decode cX1_sees 36 = .ok (.iconst 0, 1) := dk_3 (dk_at dksX1_sees_1 12 rfl rfl)
theorem dX1_sees_37 : decode cX1_sees 37 = .ok (.istore_n 2, 1) := dk_61 (dk_at dksX1_sees_1 13 rfl rfl)
theorem dX1_sees_38 : decode cX1_sees 38 = .ok (.iload_n 2, 1) := dk_28 (dk_at dksX1_sees_1 14 rfl rfl)
theorem dX1_sees_39 : decode cX1_sees 39 = .ok (.aload_n 0, 1) := dk_42 (dk_at dksX1_sees_1 15 rfl rfl)
theorem dX1_sees_40 : decode cX1_sees 40 = .ok (.getfield 43, 3) := dk_180 0 43 (dk_at dksX1_sees_1 16 rfl rfl)
theorem dX1_sees_43 : decode cX1_sees 43 = .ok (.invokevirtual 121, 3) := dk_182 0 121 (dk_at dksX1_sees_1 19 rfl rfl)
theorem dX1_sees_46 : decode cX1_sees 46 = .ok (.if_icmp .ge 73, 3) := dk_162 0 73 (dk_at dksX1_sees_2 0 rfl rfl)
theorem dX1_sees_49 : decode cX1_sees 49 = .ok (.aload_n 0, 1) := dk_42 (dk_at dksX1_sees_2 3 rfl rfl)
theorem dX1_sees_50 : decode cX1_sees 50 = .ok (.getfield 43, 3) := dk_180 0 43 (dk_at dksX1_sees_2 4 rfl rfl)
theorem dX1_sees_53 : decode cX1_sees 53 = .ok (.iload_n 2, 1) := dk_28 (dk_at dksX1_sees_2 7 rfl rfl)
theorem dX1_sees_54 : decode cX1_sees 54 = .ok (.invokevirtual 144, 3) := dk_182 0 144 (dk_at dksX1_sees_2 8 rfl rfl)
theorem dX1_sees_57 : decode cX1_sees 57 = .ok (.checkcast 170, 3) := dk_192 0 170 (dk_at dksX1_sees_2 11 rfl rfl)
theorem dX1_sees_60 : decode cX1_sees 60 = .ok (.getfield 226, 3) := dk_180 0 226 (dk_at dksX1_sees_2 14 rfl rfl)
theorem dX1_sees_63 : decode cX1_sees 63 = .ok (.aload_n 1, 1) := dk_43 (dk_at dksX1_sees_2 17 rfl rfl)
theorem dX1_sees_64 : decode cX1_sees 64 = .ok (.if_acmp .ne 49, 3) := dk_166 0 49 (dk_at dksX1_sees_2 18 rfl rfl)
theorem dX1_sees_67 : decode cX1_sees 67 = .ok (.aload_n 0, 1) := dk_42 (dk_at dksX1_sees_2 21 rfl rfl)
theorem dX1_sees_68 : decode cX1_sees 68 = .ok (.getfield 43, 3) := dk_180 0 43 (dk_at dksX1_sees_3 0 rfl rfl)
theorem dX1_sees_71 : decode cX1_sees 71 = .ok (.iload_n 2, 1) := dk_28 (dk_at dksX1_sees_3 3 rfl rfl)
theorem dX1_sees_72 : decode cX1_sees 72 = .ok (.invokevirtual 144, 3) := dk_182 0 144 (dk_at dksX1_sees_3 4 rfl rfl)
theorem dX1_sees_75 : decode cX1_sees 75 = .ok (.checkcast 170, 3) := dk_192 0 170 (dk_at dksX1_sees_3 7 rfl rfl)
theorem dX1_sees_78 : decode cX1_sees 78 = .ok (.getfield 230, 3) := dk_180 0 230 (dk_at dksX1_sees_3 10 rfl rfl)
theorem dX1_sees_81 : decode cX1_sees 81 = .ok (.aload_n 0, 1) := dk_42 (dk_at dksX1_sees_3 13 rfl rfl)
theorem dX1_sees_82 : decode cX1_sees 82 = .ok (.invokevirtual 215, 3) := dk_182 0 215 (dk_at dksX1_sees_3 14 rfl rfl)
theorem dX1_sees_85 : decode cX1_sees 85 = .ok (.if_icmp .gt 28, 3) := dk_163 0 28 (dk_at dksX1_sees_3 17 rfl rfl)
theorem dX1_sees_88 : decode cX1_sees 88 = .ok (.aload_n 1, 1) := dk_43 (dk_at dksX1_sees_3 20 rfl rfl)
theorem dX1_sees_89 : decode cX1_sees 89 = .ok (.dup, 1) := dk_89 (dk_at dksX1_sees_3 21 rfl rfl)
theorem dX1_sees_90 : decode cX1_sees 90 = .ok (.getfield 223, 3) := dk_180 0 223 (dk_at dksX1_sees_4 0 rfl rfl)
theorem dX1_sees_93 : decode cX1_sees 93 = .ok (.iconst 1, 1) := dk_4 (dk_at dksX1_sees_4 3 rfl rfl)
theorem dX1_sees_94 : decode cX1_sees 94 = .ok (.aload_n 0, 1) := dk_42 (dk_at dksX1_sees_4 4 rfl rfl)
theorem dX1_sees_95 : decode cX1_sees 95 = .ok (.getfield 43, 3) := dk_180 0 43 (dk_at dksX1_sees_4 5 rfl rfl)
theorem dX1_sees_98 : decode cX1_sees 98 = .ok (.iload_n 2, 1) := dk_28 (dk_at dksX1_sees_4 8 rfl rfl)
theorem dX1_sees_99 : decode cX1_sees 99 = .ok (.invokevirtual 144, 3) := dk_182 0 144 (dk_at dksX1_sees_4 9 rfl rfl)
theorem dX1_sees_102 : decode cX1_sees 102 = .ok (.checkcast 170, 3) := dk_192 0 170 (dk_at dksX1_sees_4 12 rfl rfl)
theorem dX1_sees_105 : decode cX1_sees 105 = .ok (.getfield 231, 3) := dk_180 0 231 (dk_at dksX1_sees_4 15 rfl rfl)
theorem dX1_sees_108 : decode cX1_sees 108 = .ok (.ishl, 1) := dk_120 (dk_at dksX1_sees_4 18 rfl rfl)
theorem dX1_sees_109 : decode cX1_sees 109 = .ok (.ixor, 1) := dk_130 (dk_at dksX1_sees_4 19 rfl rfl)
theorem dX1_sees_110 : decode cX1_sees 110 = .ok (.putfield 223, 3) := dk_181 0 223 (dk_at dksX1_sees_4 20 rfl rfl)
theorem dX1_sees_113 : decode cX1_sees 113 = .ok (.iinc 2 1, 3) := dk_132 2 1 (dk_at dksX1_sees_5 0 rfl rfl)
theorem dX1_sees_116 : decode cX1_sees 116 = .ok (.goto (-78), 3) := dk_167 255 178 (dk_at dksX1_sees_5 3 rfl rfl)
theorem dX1_sees_119 : decode cX1_sees 119 = .ok (.aload_n 1, 1) := dk_43 (dk_at dksX1_sees_5 6 rfl rfl)
theorem dX1_sees_120 : decode cX1_sees 120 = .ok (.aload_n 1, 1) := dk_43 (dk_at dksX1_sees_5 7 rfl rfl)
theorem dX1_sees_121 : decode cX1_sees 121 = .ok (.invokevirtual 234, 3) := dk_182 0 234 (dk_at dksX1_sees_5 8 rfl rfl)
theorem dX1_sees_124 : decode cX1_sees 124 = .ok (.ifCond .eq 7, 3) := dk_153 0 7 (dk_at dksX1_sees_5 11 rfl rfl)
theorem dX1_sees_127 : decode cX1_sees 127 = .ok (.iconst 0, 1) := dk_3 (dk_at dksX1_sees_5 14 rfl rfl)
theorem dX1_sees_128 : decode cX1_sees 128 = .ok (.goto 4, 3) := dk_167 0 4 (dk_at dksX1_sees_5 15 rfl rfl)
theorem dX1_sees_131 : decode cX1_sees 131 = .ok (.iconst 1, 1) := dk_4 (dk_at dksX1_sees_5 18 rfl rfl)
theorem dX1_sees_132 : decode cX1_sees 132 = .ok (.putfield 237, 3) := dk_181 0 237 (dk_at dksX1_sees_5 19 rfl rfl)
theorem dX1_sees_135 : decode cX1_sees 135 = .ok (.aload_n 1, 1) := dk_43 (dk_at dksX1_sees_5 22 rfl rfl)
theorem dX1_sees_136 : decode cX1_sees 136 = .ok (.aconst_null, 1) := dk_1 (dk_at dksX1_sees_5 23 rfl rfl)
theorem dX1_sees_137 : decode cX1_sees 137 = .ok (.putfield 240, 3) := dk_181 0 240 (dk_at dksX1_sees_6 0 rfl rfl)
theorem dX1_sees_140 : decode cX1_sees 140 = .ok (.iconst 0, 1) := dk_3 (dk_at dksX1_sees_6 3 rfl rfl)
theorem dX1_sees_141 : decode cX1_sees 141 = .ok (.istore_n 2, 1) := dk_61 (dk_at dksX1_sees_6 4 rfl rfl)
theorem dX1_sees_142 : decode cX1_sees 142 = .ok (.iload_n 2, 1) := dk_28 (dk_at dksX1_sees_6 5 rfl rfl)
theorem dX1_sees_143 : decode cX1_sees 143 = .ok (.aload_n 0, 1) := dk_42 (dk_at dksX1_sees_6 6 rfl rfl)
theorem dX1_sees_144 : decode cX1_sees 144 = .ok (.getfield 46, 3) := dk_180 0 46 (dk_at dksX1_sees_6 7 rfl rfl)
theorem dX1_sees_147 : decode cX1_sees 147 = .ok (.invokevirtual 121, 3) := dk_182 0 121 (dk_at dksX1_sees_6 10 rfl rfl)
theorem dX1_sees_150 : decode cX1_sees 150 = .ok (.if_icmp .ge 83, 3) := dk_162 0 83 (dk_at dksX1_sees_6 13 rfl rfl)
theorem dX1_sees_153 : decode cX1_sees 153 = .ok (.aload_n 0, 1) := dk_42 (dk_at dksX1_sees_6 16 rfl rfl)
theorem dX1_sees_154 : decode cX1_sees 154 = .ok (.getfield 46, 3) := dk_180 0 46 (dk_at dksX1_sees_6 17 rfl rfl)
theorem dX1_sees_157 : decode cX1_sees 157 = .ok (.iload_n 2, 1) := dk_28 (dk_at dksX1_sees_6 20 rfl rfl)
theorem dX1_sees_158 : decode cX1_sees 158 = .ok (.invokevirtual 144, 3) := dk_182 0 144 (dk_at dksX1_sees_6 21 rfl rfl)
theorem dX1_sees_161 : decode cX1_sees 161 = .ok (.checkcast 244, 3) := dk_192 0 244 (dk_at dksX1_sees_7 0 rfl rfl)
theorem dX1_sees_164 : decode cX1_sees 164 = .ok (.astore_n 3, 1) := dk_78 (dk_at dksX1_sees_7 3 rfl rfl)
theorem dX1_sees_165 : decode cX1_sees 165 = .ok (.aload_n 3, 1) := dk_45 (dk_at dksX1_sees_7 4 rfl rfl)
theorem dX1_sees_166 : decode cX1_sees 166 = .ok (.getfield 246, 3) := dk_180 0 246 (dk_at dksX1_sees_7 5 rfl rfl)
theorem dX1_sees_169 : decode cX1_sees 169 = .ok (.aload_n 0, 1) := dk_42 (dk_at dksX1_sees_7 8 rfl rfl)
theorem dX1_sees_170 : decode cX1_sees 170 = .ok (.invokevirtual 215, 3) := dk_182 0 215 (dk_at dksX1_sees_7 9 rfl rfl)
theorem dX1_sees_173 : decode cX1_sees 173 = .ok (.if_icmp .gt 54, 3) := dk_163 0 54 (dk_at dksX1_sees_7 12 rfl rfl)
theorem dX1_sees_176 : decode cX1_sees 176 = .ok (.aload_n 3, 1) := dk_45 (dk_at dksX1_sees_7 15 rfl rfl)
theorem dX1_sees_177 : decode cX1_sees 177 = .ok (.getfield 247, 3) := dk_180 0 247 (dk_at dksX1_sees_7 16 rfl rfl)
theorem dX1_sees_180 : decode cX1_sees 180 = .ok (.aload_n 1, 1) := dk_43 (dk_at dksX1_sees_7 19 rfl rfl)
theorem dX1_sees_181 : decode cX1_sees 181 = .ok (.getfield 160, 3) := dk_180 0 160 (dk_at dksX1_sees_7 20 rfl rfl)
theorem dX1_sees_184 : decode cX1_sees 184 = .ok (.getfield 250, 3) := dk_180 0 250 (dk_at dksX1_sees_8 0 rfl rfl)
theorem dX1_sees_187 : decode cX1_sees 187 = .ok (.if_icmp .ne 40, 3) := dk_160 0 40 (dk_at dksX1_sees_8 3 rfl rfl)
theorem dX1_sees_190 : decode cX1_sees 190 = .ok (.aload_n 3, 1) := dk_45 (dk_at dksX1_sees_8 6 rfl rfl)
theorem dX1_sees_191 : decode cX1_sees 191 = .ok (.getfield 251, 3) := dk_180 0 251 (dk_at dksX1_sees_8 7 rfl rfl)
theorem dX1_sees_194 : decode cX1_sees 194 = .ok (.aload_n 1, 1) := dk_43 (dk_at dksX1_sees_8 10 rfl rfl)
theorem dX1_sees_195 : decode cX1_sees 195 = .ok (.getfield 151, 3) := dk_180 0 151 (dk_at dksX1_sees_8 11 rfl rfl)
theorem dX1_sees_198 : decode cX1_sees 198 = .ok (.if_icmp .gt 29, 3) := dk_163 0 29 (dk_at dksX1_sees_8 14 rfl rfl)
theorem dX1_sees_201 : decode cX1_sees 201 = .ok (.aload_n 1, 1) := dk_43 (dk_at dksX1_sees_8 17 rfl rfl)
theorem dX1_sees_202 : decode cX1_sees 202 = .ok (.getfield 240, 3) := dk_180 0 240 (dk_at dksX1_sees_8 18 rfl rfl)
theorem dX1_sees_205 : decode cX1_sees 205 = .ok (.ifnull 17, 3) := dk_198 0 17 (dk_at dksX1_sees_8 21 rfl rfl)
theorem dX1_sees_208 : decode cX1_sees 208 = .ok (.aload_n 3, 1) := dk_45 (dk_at dksX1_sees_9 0 rfl rfl)
theorem dX1_sees_209 : decode cX1_sees 209 = .ok (.getfield 251, 3) := dk_180 0 251 (dk_at dksX1_sees_9 1 rfl rfl)
theorem dX1_sees_212 : decode cX1_sees 212 = .ok (.aload_n 1, 1) := dk_43 (dk_at dksX1_sees_9 4 rfl rfl)
theorem dX1_sees_213 : decode cX1_sees 213 = .ok (.getfield 240, 3) := dk_180 0 240 (dk_at dksX1_sees_9 5 rfl rfl)
theorem dX1_sees_216 : decode cX1_sees 216 = .ok (.getfield 251, 3) := dk_180 0 251 (dk_at dksX1_sees_9 8 rfl rfl)
theorem dX1_sees_219 : decode cX1_sees 219 = .ok (.if_icmp .lt 8, 3) := dk_161 0 8 (dk_at dksX1_sees_9 11 rfl rfl)
theorem dX1_sees_222 : decode cX1_sees 222 = .ok (.aload_n 1, 1) := dk_43 (dk_at dksX1_sees_9 14 rfl rfl)
theorem dX1_sees_223 : decode cX1_sees 223 = .ok (.aload_n 3, 1) := dk_45 (dk_at dksX1_sees_9 15 rfl rfl)
theorem dX1_sees_224 : decode cX1_sees 224 = .ok (.putfield 240, 3) := dk_181 0 240 (dk_at dksX1_sees_9 16 rfl rfl)
theorem dX1_sees_227 : decode cX1_sees 227 = .ok (.iinc 2 1, 3) := dk_132 2 1 (dk_at dksX1_sees_9 19 rfl rfl)
theorem dX1_sees_230 : decode cX1_sees 230 = .ok (.goto (-88), 3) := dk_167 255 168 (dk_at dksX1_sees_10 0 rfl rfl)
theorem dX1_sees_233 : decode cX1_sees 233 = .ok (.aload_n 0, 1) := dk_42 (dk_at dksX1_sees_10 3 rfl rfl)
theorem dX1_sees_234 : decode cX1_sees 234 = .ok (.getfield 71, 3) := dk_180 0 71 (dk_at dksX1_sees_10 4 rfl rfl)
theorem dX1_sees_237 : decode cX1_sees 237 = .ok (.invokevirtual 121, 3) := dk_182 0 121 (dk_at dksX1_sees_10 7 rfl rfl)
theorem dX1_sees_240 : decode cX1_sees 240 = .ok (.istore_n 2, 1) := dk_61 (dk_at dksX1_sees_10 10 rfl rfl)
theorem dX1_sees_241 : decode cX1_sees 241 = .ok (.iload_n 2, 1) := dk_28 (dk_at dksX1_sees_10 11 rfl rfl)
theorem dX1_sees_242 : decode cX1_sees 242 = .ok (.ifCond .le 29, 3) := dk_158 0 29 (dk_at dksX1_sees_10 12 rfl rfl)
theorem dX1_sees_245 : decode cX1_sees 245 = .ok (.aload_n 1, 1) := dk_43 (dk_at dksX1_sees_10 15 rfl rfl)
theorem dX1_sees_246 : decode cX1_sees 246 = .ok (.aload_n 0, 1) := dk_42 (dk_at dksX1_sees_10 16 rfl rfl)
theorem dX1_sees_247 : decode cX1_sees 247 = .ok (.getfield 71, 3) := dk_180 0 71 (dk_at dksX1_sees_10 17 rfl rfl)
theorem dX1_sees_250 : decode cX1_sees 250 = .ok (.iload_n 2, 1) := dk_28 (dk_at dksX1_sees_10 20 rfl rfl)
theorem dX1_sees_251 : decode cX1_sees 251 = .ok (.iconst 1, 1) := dk_4 (dk_at dksX1_sees_10 21 rfl rfl)
theorem dX1_sees_252 : decode cX1_sees 252 = .ok (.isub, 1) := dk_100 (dk_at dksX1_sees_10 22 rfl rfl)
theorem dX1_sees_253 : decode cX1_sees 253 = .ok (.invokevirtual 144, 3) := dk_182 0 144 (dk_at dksX1_sees_11 0 rfl rfl)
theorem dX1_sees_256 : decode cX1_sees 256 = .ok (.checkcast 81, 3) := dk_192 0 81 (dk_at dksX1_sees_11 3 rfl rfl)
theorem dX1_sees_259 : decode cX1_sees 259 = .ok (.invokevirtual 254, 3) := dk_182 0 254 (dk_at dksX1_sees_11 6 rfl rfl)
theorem dX1_sees_262 : decode cX1_sees 262 = .ok (.ifCond .eq 9, 3) := dk_153 0 9 (dk_at dksX1_sees_11 9 rfl rfl)
theorem dX1_sees_265 : decode cX1_sees 265 = .ok (.iinc 2 (-1), 3) := dk_132 2 255 (dk_at dksX1_sees_11 12 rfl rfl)
theorem dX1_sees_268 : decode cX1_sees 268 = .ok (.goto (-27), 3) := dk_167 255 229 (dk_at dksX1_sees_11 15 rfl rfl)
theorem dX1_sees_271 : decode cX1_sees 271 = .ok (.aload_n 0, 1) := dk_42 (dk_at dksX1_sees_11 18 rfl rfl)
theorem dX1_sees_272 : decode cX1_sees 272 = .ok (.getfield 71, 3) := dk_180 0 71 (dk_at dksX1_sees_11 19 rfl rfl)
theorem dX1_sees_275 : decode cX1_sees 275 = .ok (.iload_n 2, 1) := dk_28 (dk_at dksX1_sees_11 22 rfl rfl)
theorem dX1_sees_276 : decode cX1_sees 276 = .ok (.aload_n 1, 1) := dk_43 (dk_at dksX1_sees_11 23 rfl rfl)
theorem dX1_sees_277 : decode cX1_sees 277 = .ok (.invokevirtual 257, 3) := dk_182 1 1 (dk_at dksX1_sees_12 0 rfl rfl)
theorem dX1_sees_280 : decode cX1_sees 280 = .ok (.return_, 1) := dk_177 (dk_at dksX1_sees_12 3 rfl rfl)
abbrev cX1_day : ByteArray := prog_1_method_4_code
def yX1_day : MethodName := ⟨RX1, "day", "()I"⟩
def dkwX1_day_0 : List UInt8 := [42, 180, 0, 9, 156, 0, 10, 42, 180, 0, 110, 167, 0, 7, 42, 180, 0, 9, 172]
abbrev dktX1_day_0 : List UInt8 := dkwX1_day_0 ++ []
theorem dksX1_day_0 : cX1_day.data.toList.drop 0 = dktX1_day_0 := by decide +kernel
theorem dX1_day_0 : decode cX1_day 0 = .ok (.aload_n 0, 1) := dk_42 (dk_at dksX1_day_0 0 rfl rfl)
theorem dX1_day_1 : decode cX1_day 1 = .ok (.getfield 9, 3) := dk_180 0 9 (dk_at dksX1_day_0 1 rfl rfl)
theorem dX1_day_4 : decode cX1_day 4 = .ok (.ifCond .ge 10, 3) := dk_156 0 10 (dk_at dksX1_day_0 4 rfl rfl)
theorem dX1_day_7 : decode cX1_day 7 = .ok (.aload_n 0, 1) := dk_42 (dk_at dksX1_day_0 7 rfl rfl)
theorem dX1_day_8 : decode cX1_day 8 = .ok (.getfield 110, 3) := dk_180 0 110 (dk_at dksX1_day_0 8 rfl rfl)
theorem dX1_day_11 : decode cX1_day 11 = .ok (.goto 7, 3) := dk_167 0 7 (dk_at dksX1_day_0 11 rfl rfl)
theorem dX1_day_14 : decode cX1_day 14 = .ok (.aload_n 0, 1) := dk_42 (dk_at dksX1_day_0 14 rfl rfl)
theorem dX1_day_15 : decode cX1_day 15 = .ok (.getfield 9, 3) := dk_180 0 9 (dk_at dksX1_day_0 15 rfl rfl)
theorem dX1_day_18 : decode cX1_day 18 = .ok (.ireturn, 1) := dk_172 (dk_at dksX1_day_0 18 rfl rfl)
abbrev cX1_scores : ByteArray := prog_1_method_22_code
def yX1_scores : MethodName := ⟨RX1, "scores", "(LSecretBuyers$Visit;)V"⟩
def dkwX1_scores_5 : List UInt8 := [43, 180, 0, 223, 182, 1, 13, 181, 1, 16, 177]
abbrev dktX1_scores_5 : List UInt8 := dkwX1_scores_5 ++ []
def dkwX1_scores_4 : List UInt8 := [181, 1, 7, 43, 43, 180, 0, 240, 199, 0, 7, 3, 167, 0, 19, 43, 180, 0, 240, 42, 180, 0, 63, 43]
abbrev dktX1_scores_4 : List UInt8 := dkwX1_scores_4 ++ dktX1_scores_5
def dkwX1_scores_3 : List UInt8 := [199, 0, 7, 3, 167, 0, 19, 43, 180, 0, 240, 42, 180, 0, 63, 43, 43, 180, 0, 223, 182, 1, 10]
abbrev dktX1_scores_3 : List UInt8 := dkwX1_scores_3 ++ dktX1_scores_4
def dkwX1_scores_2 : List UInt8 := [182, 0, 144, 192, 0, 81, 180, 1, 7, 181, 1, 4, 132, 2, 1, 167, 255, 202, 43, 43, 180, 0, 240]
abbrev dktX1_scores_2 : List UInt8 := dkwX1_scores_2 ++ dktX1_scores_3
def dkwX1_scores_1 : List UInt8 := [182, 0, 144, 192, 0, 81, 180, 0, 160, 43, 180, 0, 160, 166, 0, 21, 43, 42, 180, 0, 71, 28]
abbrev dktX1_scores_1 : List UInt8 := dkwX1_scores_1 ++ dktX1_scores_2
def dkwX1_scores_0 : List UInt8 := [43, 3, 181, 1, 4, 3, 61, 42, 180, 0, 71, 28, 182, 0, 144, 43, 165, 0, 48, 42, 180, 0, 71, 28]
abbrev dktX1_scores_0 : List UInt8 := dkwX1_scores_0 ++ dktX1_scores_1
theorem dksX1_scores_0 : cX1_scores.data.toList.drop 0 = dktX1_scores_0 := by decide +kernel
theorem dksX1_scores_1 : cX1_scores.data.toList.drop 24 = dktX1_scores_1 := dk_seg dksX1_scores_0 24 rfl rfl
theorem dksX1_scores_2 : cX1_scores.data.toList.drop 46 = dktX1_scores_2 := dk_seg dksX1_scores_1 22 rfl rfl
theorem dksX1_scores_3 : cX1_scores.data.toList.drop 69 = dktX1_scores_3 := dk_seg dksX1_scores_2 23 rfl rfl
theorem dksX1_scores_4 : cX1_scores.data.toList.drop 92 = dktX1_scores_4 := dk_seg dksX1_scores_3 23 rfl rfl
theorem dksX1_scores_5 : cX1_scores.data.toList.drop 116 = dktX1_scores_5 := dk_seg dksX1_scores_4 24 rfl rfl
theorem dX1_scores_0 : decode cX1_scores 0 = .ok (.aload_n 1, 1) := dk_43 (dk_at dksX1_scores_0 0 rfl rfl)
theorem dX1_scores_1 : decode cX1_scores 1 = .ok (.iconst 0, 1) := dk_3 (dk_at dksX1_scores_0 1 rfl rfl)
theorem dX1_scores_2 : decode cX1_scores 2 = .ok (.putfield 260, 3) := dk_181 1 4 (dk_at dksX1_scores_0 2 rfl rfl)
theorem dX1_scores_5 : decode cX1_scores 5 = .ok (.iconst 0, 1) := dk_3 (dk_at dksX1_scores_0 5 rfl rfl)
theorem dX1_scores_6 : decode cX1_scores 6 = .ok (.istore_n 2, 1) := dk_61 (dk_at dksX1_scores_0 6 rfl rfl)
theorem dX1_scores_7 : decode cX1_scores 7 = .ok (.aload_n 0, 1) := dk_42 (dk_at dksX1_scores_0 7 rfl rfl)
theorem dX1_scores_8 : decode cX1_scores 8 = .ok (.getfield 71, 3) := dk_180 0 71 (dk_at dksX1_scores_0 8 rfl rfl)
theorem dX1_scores_11 : decode cX1_scores 11 = .ok (.iload_n 2, 1) := dk_28 (dk_at dksX1_scores_0 11 rfl rfl)
theorem dX1_scores_12 : decode cX1_scores 12 = .ok (.invokevirtual 144, 3) := dk_182 0 144 (dk_at dksX1_scores_0 12 rfl rfl)
theorem dX1_scores_15 : decode cX1_scores 15 = .ok (.aload_n 1, 1) := dk_43 (dk_at dksX1_scores_0 15 rfl rfl)
theorem dX1_scores_16 : decode cX1_scores 16 = .ok (.if_acmp .eq 48, 3) := dk_165 0 48 (dk_at dksX1_scores_0 16 rfl rfl)
theorem dX1_scores_19 : decode cX1_scores 19 = .ok (.aload_n 0, 1) := dk_42 (dk_at dksX1_scores_0 19 rfl rfl)
theorem dX1_scores_20 : decode cX1_scores 20 = .ok (.getfield 71, 3) := dk_180 0 71 (dk_at dksX1_scores_0 20 rfl rfl)
theorem dX1_scores_23 : decode cX1_scores 23 = .ok (.iload_n 2, 1) := dk_28 (dk_at dksX1_scores_0 23 rfl rfl)
theorem dX1_scores_24 : decode cX1_scores 24 = .ok (.invokevirtual 144, 3) := dk_182 0 144 (dk_at dksX1_scores_1 0 rfl rfl)
theorem dX1_scores_27 : decode cX1_scores 27 = .ok (.checkcast 81, 3) := dk_192 0 81 (dk_at dksX1_scores_1 3 rfl rfl)
theorem dX1_scores_30 : decode cX1_scores 30 = .ok (.getfield 160, 3) := dk_180 0 160 (dk_at dksX1_scores_1 6 rfl rfl)
theorem dX1_scores_33 : decode cX1_scores 33 = .ok (.aload_n 1, 1) := dk_43 (dk_at dksX1_scores_1 9 rfl rfl)
theorem dX1_scores_34 : decode cX1_scores 34 = .ok (.getfield 160, 3) := dk_180 0 160 (dk_at dksX1_scores_1 10 rfl rfl)
theorem dX1_scores_37 : decode cX1_scores 37 = .ok (.if_acmp .ne 21, 3) := dk_166 0 21 (dk_at dksX1_scores_1 13 rfl rfl)
theorem dX1_scores_40 : decode cX1_scores 40 = .ok (.aload_n 1, 1) := dk_43 (dk_at dksX1_scores_1 16 rfl rfl)
theorem dX1_scores_41 : decode cX1_scores 41 = .ok (.aload_n 0, 1) := dk_42 (dk_at dksX1_scores_1 17 rfl rfl)
theorem dX1_scores_42 : decode cX1_scores 42 = .ok (.getfield 71, 3) := dk_180 0 71 (dk_at dksX1_scores_1 18 rfl rfl)
theorem dX1_scores_45 : decode cX1_scores 45 = .ok (.iload_n 2, 1) := dk_28 (dk_at dksX1_scores_1 21 rfl rfl)
theorem dX1_scores_46 : decode cX1_scores 46 = .ok (.invokevirtual 144, 3) := dk_182 0 144 (dk_at dksX1_scores_2 0 rfl rfl)
theorem dX1_scores_49 : decode cX1_scores 49 = .ok (.checkcast 81, 3) := dk_192 0 81 (dk_at dksX1_scores_2 3 rfl rfl)
theorem dX1_scores_52 : decode cX1_scores 52 = .ok (.getfield 263, 3) := dk_180 1 7 (dk_at dksX1_scores_2 6 rfl rfl)
theorem dX1_scores_55 : decode cX1_scores 55 = .ok (.putfield 260, 3) := dk_181 1 4 (dk_at dksX1_scores_2 9 rfl rfl)
theorem dX1_scores_58 : decode cX1_scores 58 = .ok (.iinc 2 1, 3) := dk_132 2 1 (dk_at dksX1_scores_2 12 rfl rfl)
theorem dX1_scores_61 : decode cX1_scores 61 = .ok (.goto (-54), 3) := dk_167 255 202 (dk_at dksX1_scores_2 15 rfl rfl)
theorem dX1_scores_64 : decode cX1_scores 64 = .ok (.aload_n 1, 1) := dk_43 (dk_at dksX1_scores_2 18 rfl rfl)
theorem dX1_scores_65 : decode cX1_scores 65 = .ok (.aload_n 1, 1) := dk_43 (dk_at dksX1_scores_2 19 rfl rfl)
theorem dX1_scores_66 : decode cX1_scores 66 = .ok (.getfield 240, 3) := dk_180 0 240 (dk_at dksX1_scores_2 20 rfl rfl)
theorem dX1_scores_69 : decode cX1_scores 69 = .ok (.ifnonnull 7, 3) := dk_199 0 7 (dk_at dksX1_scores_3 0 rfl rfl)
theorem dX1_scores_72 : decode cX1_scores 72 = .ok (.iconst 0, 1) := dk_3 (dk_at dksX1_scores_3 3 rfl rfl)
theorem dX1_scores_73 : decode cX1_scores 73 = .ok (.goto 19, 3) := dk_167 0 19 (dk_at dksX1_scores_3 4 rfl rfl)
theorem dX1_scores_76 : decode cX1_scores 76 = .ok (.aload_n 1, 1) := dk_43 (dk_at dksX1_scores_3 7 rfl rfl)
theorem dX1_scores_77 : decode cX1_scores 77 = .ok (.getfield 240, 3) := dk_180 0 240 (dk_at dksX1_scores_3 8 rfl rfl)
theorem dX1_scores_80 : decode cX1_scores 80 = .ok (.aload_n 0, 1) := dk_42 (dk_at dksX1_scores_3 11 rfl rfl)
theorem dX1_scores_81 : decode cX1_scores 81 = .ok (.getfield 63, 3) := dk_180 0 63 (dk_at dksX1_scores_3 12 rfl rfl)
theorem dX1_scores_84 : decode cX1_scores 84 = .ok (.aload_n 1, 1) := dk_43 (dk_at dksX1_scores_3 15 rfl rfl)
theorem dX1_scores_85 : decode cX1_scores 85 = .ok (.aload_n 1, 1) := dk_43 (dk_at dksX1_scores_3 16 rfl rfl)
theorem dX1_scores_86 : decode cX1_scores 86 = .ok (.getfield 223, 3) := dk_180 0 223 (dk_at dksX1_scores_3 17 rfl rfl)
theorem dX1_scores_89 : decode cX1_scores 89 = .ok (.invokevirtual 266, 3) := dk_182 1 10 (dk_at dksX1_scores_3 20 rfl rfl)
theorem dX1_scores_92 : decode cX1_scores 92 = .ok (.putfield 263, 3) := dk_181 1 7 (dk_at dksX1_scores_4 0 rfl rfl)
theorem dX1_scores_95 : decode cX1_scores 95 = .ok (.aload_n 1, 1) := dk_43 (dk_at dksX1_scores_4 3 rfl rfl)
theorem dX1_scores_96 : decode cX1_scores 96 = .ok (.aload_n 1, 1) := dk_43 (dk_at dksX1_scores_4 4 rfl rfl)
theorem dX1_scores_97 : decode cX1_scores 97 = .ok (.getfield 240, 3) := dk_180 0 240 (dk_at dksX1_scores_4 5 rfl rfl)
theorem dX1_scores_100 : decode cX1_scores 100 = .ok (.ifnonnull 7, 3) := dk_199 0 7 (dk_at dksX1_scores_4 8 rfl rfl)
theorem dX1_scores_103 : decode cX1_scores 103 = .ok (.iconst 0, 1) := dk_3 (dk_at dksX1_scores_4 11 rfl rfl)
theorem dX1_scores_104 : decode cX1_scores 104 = .ok (.goto 19, 3) := dk_167 0 19 (dk_at dksX1_scores_4 12 rfl rfl)
theorem dX1_scores_107 : decode cX1_scores 107 = .ok (.aload_n 1, 1) := dk_43 (dk_at dksX1_scores_4 15 rfl rfl)
theorem dX1_scores_108 : decode cX1_scores 108 = .ok (.getfield 240, 3) := dk_180 0 240 (dk_at dksX1_scores_4 16 rfl rfl)
theorem dX1_scores_111 : decode cX1_scores 111 = .ok (.aload_n 0, 1) := dk_42 (dk_at dksX1_scores_4 19 rfl rfl)
theorem dX1_scores_112 : decode cX1_scores 112 = .ok (.getfield 63, 3) := dk_180 0 63 (dk_at dksX1_scores_4 20 rfl rfl)
theorem dX1_scores_115 : decode cX1_scores 115 = .ok (.aload_n 1, 1) := dk_43 (dk_at dksX1_scores_4 23 rfl rfl)
theorem dX1_scores_116 : decode cX1_scores 116 = .ok (.aload_n 1, 1) := dk_43 (dk_at dksX1_scores_5 0 rfl rfl)
theorem dX1_scores_117 : decode cX1_scores 117 = .ok (.getfield 223, 3) := dk_180 0 223 (dk_at dksX1_scores_5 1 rfl rfl)
theorem dX1_scores_120 : decode cX1_scores 120 = .ok (.invokevirtual 269, 3) := dk_182 1 13 (dk_at dksX1_scores_5 4 rfl rfl)
theorem dX1_scores_123 : decode cX1_scores 123 = .ok (.putfield 272, 3) := dk_181 1 16 (dk_at dksX1_scores_5 7 rfl rfl)
theorem dX1_scores_126 : decode cX1_scores 126 = .ok (.return_, 1) := dk_177 (dk_at dksX1_scores_5 10 rfl rfl)
abbrev cX1_isFirstOf : ByteArray := prog_1_method_23_code
def yX1_isFirstOf : MethodName := ⟨RX1, "isFirstOf", "(LSecretBuyers$Visit;)Z"⟩
def dkwX1_isFirstOf_2 : List UInt8 := [180, 0, 151, 43, 180, 0, 151, 160, 0, 5, 3, 172, 132, 2, 1, 167, 255, 197, 4, 172]
abbrev dktX1_isFirstOf_2 : List UInt8 := dkwX1_isFirstOf_2 ++ []
def dkwX1_isFirstOf_1 : List UInt8 := [192, 0, 81, 180, 0, 148, 43, 180, 0, 148, 160, 0, 26, 42, 180, 0, 71, 28, 182, 0, 144, 192, 0, 81]
abbrev dktX1_isFirstOf_1 : List UInt8 := dkwX1_isFirstOf_1 ++ dktX1_isFirstOf_2
def dkwX1_isFirstOf_0 : List UInt8 := [3, 61, 42, 180, 0, 71, 28, 182, 0, 144, 43, 165, 0, 53, 42, 180, 0, 71, 28, 182, 0, 144]
abbrev dktX1_isFirstOf_0 : List UInt8 := dkwX1_isFirstOf_0 ++ dktX1_isFirstOf_1
theorem dksX1_isFirstOf_0 : cX1_isFirstOf.data.toList.drop 0 = dktX1_isFirstOf_0 := by decide +kernel
theorem dksX1_isFirstOf_1 : cX1_isFirstOf.data.toList.drop 22 = dktX1_isFirstOf_1 := dk_seg dksX1_isFirstOf_0 22 rfl rfl
theorem dksX1_isFirstOf_2 : cX1_isFirstOf.data.toList.drop 46 = dktX1_isFirstOf_2 := dk_seg dksX1_isFirstOf_1 24 rfl rfl
theorem dX1_isFirstOf_0 : decode cX1_isFirstOf 0 = .ok (.iconst 0, 1) := dk_3 (dk_at dksX1_isFirstOf_0 0 rfl rfl)
theorem dX1_isFirstOf_1 : decode cX1_isFirstOf 1 = .ok (.istore_n 2, 1) := dk_61 (dk_at dksX1_isFirstOf_0 1 rfl rfl)
theorem dX1_isFirstOf_2 : decode cX1_isFirstOf 2 = .ok (.aload_n 0, 1) := dk_42 (dk_at dksX1_isFirstOf_0 2 rfl rfl)
theorem dX1_isFirstOf_3 : decode cX1_isFirstOf 3 = .ok (.getfield 71, 3) := dk_180 0 71 (dk_at dksX1_isFirstOf_0 3 rfl rfl)
theorem dX1_isFirstOf_6 : decode cX1_isFirstOf 6 = .ok (.iload_n 2, 1) := dk_28 (dk_at dksX1_isFirstOf_0 6 rfl rfl)
theorem dX1_isFirstOf_7 : decode cX1_isFirstOf 7 = .ok (.invokevirtual 144, 3) := dk_182 0 144 (dk_at dksX1_isFirstOf_0 7 rfl rfl)
theorem dX1_isFirstOf_10 : decode cX1_isFirstOf 10 = .ok (.aload_n 1, 1) := dk_43 (dk_at dksX1_isFirstOf_0 10 rfl rfl)
theorem dX1_isFirstOf_11 : decode cX1_isFirstOf 11 = .ok (.if_acmp .eq 53, 3) := dk_165 0 53 (dk_at dksX1_isFirstOf_0 11 rfl rfl)
theorem dX1_isFirstOf_14 : decode cX1_isFirstOf 14 = .ok (.aload_n 0, 1) := dk_42 (dk_at dksX1_isFirstOf_0 14 rfl rfl)
theorem dX1_isFirstOf_15 : decode cX1_isFirstOf 15 = .ok (.getfield 71, 3) := dk_180 0 71 (dk_at dksX1_isFirstOf_0 15 rfl rfl)
theorem dX1_isFirstOf_18 : decode cX1_isFirstOf 18 = .ok (.iload_n 2, 1) := dk_28 (dk_at dksX1_isFirstOf_0 18 rfl rfl)
theorem dX1_isFirstOf_19 : decode cX1_isFirstOf 19 = .ok (.invokevirtual 144, 3) := dk_182 0 144 (dk_at dksX1_isFirstOf_0 19 rfl rfl)
theorem dX1_isFirstOf_22 : decode cX1_isFirstOf 22 = .ok (.checkcast 81, 3) := dk_192 0 81 (dk_at dksX1_isFirstOf_1 0 rfl rfl)
theorem dX1_isFirstOf_25 : decode cX1_isFirstOf 25 = .ok (.getfield 148, 3) := dk_180 0 148 (dk_at dksX1_isFirstOf_1 3 rfl rfl)
theorem dX1_isFirstOf_28 : decode cX1_isFirstOf 28 = .ok (.aload_n 1, 1) := dk_43 (dk_at dksX1_isFirstOf_1 6 rfl rfl)
theorem dX1_isFirstOf_29 : decode cX1_isFirstOf 29 = .ok (.getfield 148, 3) := dk_180 0 148 (dk_at dksX1_isFirstOf_1 7 rfl rfl)
theorem dX1_isFirstOf_32 : decode cX1_isFirstOf 32 = .ok (.if_icmp .ne 26, 3) := dk_160 0 26 (dk_at dksX1_isFirstOf_1 10 rfl rfl)
theorem dX1_isFirstOf_35 : decode cX1_isFirstOf 35 = .ok (.aload_n 0, 1) := dk_42 (dk_at dksX1_isFirstOf_1 13 rfl rfl)
theorem dX1_isFirstOf_36 : decode cX1_isFirstOf 36 = .ok (.getfield 71, 3) := dk_180 0 71 (dk_at dksX1_isFirstOf_1 14 rfl rfl)
theorem dX1_isFirstOf_39 : decode cX1_isFirstOf 39 = .ok (.iload_n 2, 1) := dk_28 (dk_at dksX1_isFirstOf_1 17 rfl rfl)
theorem dX1_isFirstOf_40 : decode cX1_isFirstOf 40 = .ok (.invokevirtual 144, 3) := dk_182 0 144 (dk_at dksX1_isFirstOf_1 18 rfl rfl)
theorem dX1_isFirstOf_43 : decode cX1_isFirstOf 43 = .ok (.checkcast 81, 3) := dk_192 0 81 (dk_at dksX1_isFirstOf_1 21 rfl rfl)
theorem dX1_isFirstOf_46 : decode cX1_isFirstOf 46 = .ok (.getfield 151, 3) := dk_180 0 151 (dk_at dksX1_isFirstOf_2 0 rfl rfl)
theorem dX1_isFirstOf_49 : decode cX1_isFirstOf 49 = .ok (.aload_n 1, 1) := dk_43 (dk_at dksX1_isFirstOf_2 3 rfl rfl)
theorem dX1_isFirstOf_50 : decode cX1_isFirstOf 50 = .ok (.getfield 151, 3) := dk_180 0 151 (dk_at dksX1_isFirstOf_2 4 rfl rfl)
theorem dX1_isFirstOf_53 : decode cX1_isFirstOf 53 = .ok (.if_icmp .ne 5, 3) := dk_160 0 5 (dk_at dksX1_isFirstOf_2 7 rfl rfl)
theorem dX1_isFirstOf_56 : decode cX1_isFirstOf 56 = .ok (.iconst 0, 1) := dk_3 (dk_at dksX1_isFirstOf_2 10 rfl rfl)
theorem dX1_isFirstOf_57 : decode cX1_isFirstOf 57 = .ok (.ireturn, 1) := dk_172 (dk_at dksX1_isFirstOf_2 11 rfl rfl)
theorem dX1_isFirstOf_58 : decode cX1_isFirstOf 58 = .ok (.iinc 2 1, 3) := dk_132 2 1 (dk_at dksX1_isFirstOf_2 12 rfl rfl)
theorem dX1_isFirstOf_61 : decode cX1_isFirstOf 61 = .ok (.goto (-59), 3) := dk_167 255 197 (dk_at dksX1_isFirstOf_2 15 rfl rfl)
theorem dX1_isFirstOf_64 : decode cX1_isFirstOf 64 = .ok (.iconst 1, 1) := dk_4 (dk_at dksX1_isFirstOf_2 18 rfl rfl)
theorem dX1_isFirstOf_65 : decode cX1_isFirstOf 65 = .ok (.ireturn, 1) := dk_172 (dk_at dksX1_isFirstOf_2 19 rfl rfl)
abbrev cX1_seeks : ByteArray := prog_1_method_24_code
def yX1_seeks : MethodName := ⟨RX1, "seeks", "(IIZ)I"⟩
def dkwX1_seeks_15 : List UInt8 := [126, 4, 160, 0, 7, 6, 167, 0, 4, 3, 181, 0, 237, 132, 7, 1, 167, 255, 199, 21, 4, 172]
abbrev dktX1_seeks_15 : List UInt8 := dkwX1_seeks_15 ++ []
def dkwX1_seeks_14 : List UInt8 := [21, 7, 50, 21, 5, 21, 7, 122, 4, 126, 4, 160, 0, 7, 5, 167, 0, 19, 21, 6, 21, 7, 122, 4]
abbrev dktX1_seeks_14 : List UInt8 := dkwX1_seeks_14 ++ dktX1_seeks_15
def dkwX1_seeks_13 : List UInt8 := [167, 255, 150, 3, 54, 7, 21, 7, 42, 180, 1, 18, 162, 0, 54, 29, 153, 0, 50, 42, 180, 0, 83]
abbrev dktX1_seeks_13 : List UInt8 := dkwX1_seeks_13 ++ dktX1_seeks_14
def dkwX1_seeks_12 : List UInt8 := [54, 9, 21, 7, 21, 9, 126, 21, 9, 116, 126, 153, 0, 9, 42, 21, 7, 181, 1, 34, 132, 7, 1]
abbrev dktX1_seeks_12 : List UInt8 := dkwX1_seeks_12 ++ dktX1_seeks_13
def dkwX1_seeks_11 : List UInt8 := [181, 1, 34, 21, 5, 21, 7, 126, 54, 5, 21, 6, 21, 7, 128, 54, 6, 21, 7, 42, 180, 1, 34, 130]
abbrev dktX1_seeks_11 : List UInt8 := dkwX1_seeks_11 ++ dktX1_seeks_12
def dkwX1_seeks_10 : List UInt8 := [21, 8, 21, 4, 162, 0, 21, 21, 8, 54, 4, 21, 7, 54, 5, 21, 7, 54, 6, 42, 21, 7]
abbrev dktX1_seeks_10 : List UInt8 := dkwX1_seeks_10 ++ dktX1_seeks_11
def dkwX1_seeks_9 : List UInt8 := [184, 1, 25, 54, 8, 21, 8, 21, 4, 163, 0, 81, 42, 21, 7, 182, 1, 31, 154, 0, 6, 167, 0, 69]
abbrev dktX1_seeks_9 : List UInt8 := dkwX1_seeks_9 ++ dktX1_seeks_10
def dkwX1_seeks_8 : List UInt8 := [54, 4, 3, 54, 5, 3, 54, 6, 3, 54, 7, 21, 7, 4, 42, 180, 1, 18, 120, 162, 0, 101, 21, 7]
abbrev dktX1_seeks_8 : List UInt8 := dkwX1_seeks_8 ++ dktX1_seeks_9
def dkwX1_seeks_7 : List UInt8 := [4, 21, 5, 120, 128, 79, 132, 5, 1, 167, 255, 199, 132, 4, 1, 167, 255, 173, 42, 180, 1, 18, 4, 96]
abbrev dktX1_seeks_7 : List UInt8 := dkwX1_seeks_7 ++ dktX1_seeks_8
def dkwX1_seeks_6 : List UInt8 := [180, 0, 83, 21, 5, 50, 42, 180, 0, 13, 182, 1, 21, 153, 0, 17, 42, 180, 0, 87, 21, 4, 92, 46]
abbrev dktX1_seeks_6 : List UInt8 := dkwX1_seeks_6 ++ dktX1_seeks_7
def dkwX1_seeks_5 : List UInt8 := [42, 180, 1, 18, 162, 0, 54, 21, 5, 21, 4, 159, 0, 41, 42, 180, 0, 83, 21, 4, 50, 42]
abbrev dktX1_seeks_5 : List UInt8 := dkwX1_seeks_5 ++ dktX1_seeks_6
def dkwX1_seeks_4 : List UInt8 := [54, 4, 21, 4, 42, 180, 1, 18, 162, 0, 80, 42, 180, 0, 87, 21, 4, 3, 79, 3, 54, 5, 21, 5]
abbrev dktX1_seeks_4 : List UInt8 := dkwX1_seeks_4 ++ dktX1_seeks_5
def dkwX1_seeks_3 : List UInt8 := [180, 0, 83, 42, 89, 180, 1, 18, 90, 4, 96, 181, 1, 18, 25, 5, 83, 132, 4, 1, 167, 255, 174, 3]
abbrev dktX1_seeks_3 : List UInt8 := dkwX1_seeks_3 ++ dktX1_seeks_4
def dkwX1_seeks_2 : List UInt8 := [160, 0, 39, 25, 5, 180, 0, 151, 28, 160, 0, 30, 25, 5, 180, 0, 237, 4, 159, 0, 21, 42]
abbrev dktX1_seeks_2 : List UInt8 := dkwX1_seeks_2 ++ dktX1_seeks_3
def dkwX1_seeks_1 : List UInt8 := [21, 4, 182, 0, 144, 192, 0, 81, 58, 5, 25, 5, 180, 0, 217, 153, 0, 48, 25, 5, 180, 0, 148, 27]
abbrev dktX1_seeks_1 : List UInt8 := dkwX1_seeks_1 ++ dktX1_seeks_2
def dkwX1_seeks_0 : List UInt8 := [42, 3, 181, 1, 18, 3, 54, 4, 21, 4, 42, 180, 0, 40, 182, 0, 121, 162, 0, 76, 42, 180, 0, 40]
abbrev dktX1_seeks_0 : List UInt8 := dkwX1_seeks_0 ++ dktX1_seeks_1
theorem dksX1_seeks_0 : cX1_seeks.data.toList.drop 0 = dktX1_seeks_0 := by decide +kernel
theorem dksX1_seeks_1 : cX1_seeks.data.toList.drop 24 = dktX1_seeks_1 := dk_seg dksX1_seeks_0 24 rfl rfl
theorem dksX1_seeks_2 : cX1_seeks.data.toList.drop 48 = dktX1_seeks_2 := dk_seg dksX1_seeks_1 24 rfl rfl
theorem dksX1_seeks_3 : cX1_seeks.data.toList.drop 70 = dktX1_seeks_3 := dk_seg dksX1_seeks_2 22 rfl rfl
theorem dksX1_seeks_4 : cX1_seeks.data.toList.drop 94 = dktX1_seeks_4 := dk_seg dksX1_seeks_3 24 rfl rfl
theorem dksX1_seeks_5 : cX1_seeks.data.toList.drop 118 = dktX1_seeks_5 := dk_seg dksX1_seeks_4 24 rfl rfl
theorem dksX1_seeks_6 : cX1_seeks.data.toList.drop 140 = dktX1_seeks_6 := dk_seg dksX1_seeks_5 22 rfl rfl
theorem dksX1_seeks_7 : cX1_seeks.data.toList.drop 164 = dktX1_seeks_7 := dk_seg dksX1_seeks_6 24 rfl rfl
theorem dksX1_seeks_8 : cX1_seeks.data.toList.drop 188 = dktX1_seeks_8 := dk_seg dksX1_seeks_7 24 rfl rfl
theorem dksX1_seeks_9 : cX1_seeks.data.toList.drop 212 = dktX1_seeks_9 := dk_seg dksX1_seeks_8 24 rfl rfl
theorem dksX1_seeks_10 : cX1_seeks.data.toList.drop 236 = dktX1_seeks_10 := dk_seg dksX1_seeks_9 24 rfl rfl
theorem dksX1_seeks_11 : cX1_seeks.data.toList.drop 258 = dktX1_seeks_11 := dk_seg dksX1_seeks_10 22 rfl rfl
theorem dksX1_seeks_12 : cX1_seeks.data.toList.drop 282 = dktX1_seeks_12 := dk_seg dksX1_seeks_11 24 rfl rfl
theorem dksX1_seeks_13 : cX1_seeks.data.toList.drop 305 = dktX1_seeks_13 := dk_seg dksX1_seeks_12 23 rfl rfl
theorem dksX1_seeks_14 : cX1_seeks.data.toList.drop 328 = dktX1_seeks_14 := dk_seg dksX1_seeks_13 23 rfl rfl
theorem dksX1_seeks_15 : cX1_seeks.data.toList.drop 352 = dktX1_seeks_15 := dk_seg dksX1_seeks_14 24 rfl rfl
theorem dX1_seeks_0 : decode cX1_seeks 0 = .ok (.aload_n 0, 1) := dk_42 (dk_at dksX1_seeks_0 0 rfl rfl)
theorem dX1_seeks_1 : decode cX1_seeks 1 = .ok (.iconst 0, 1) := dk_3 (dk_at dksX1_seeks_0 1 rfl rfl)
theorem dX1_seeks_2 : decode cX1_seeks 2 = .ok (.putfield 274, 3) := dk_181 1 18 (dk_at dksX1_seeks_0 2 rfl rfl)
theorem dX1_seeks_5 : decode cX1_seeks 5 = .ok (.iconst 0, 1) := dk_3 (dk_at dksX1_seeks_0 5 rfl rfl)
theorem dX1_seeks_6 : decode cX1_seeks 6 = .ok (.istore 4, 2) := dk_54 4 (dk_at dksX1_seeks_0 6 rfl rfl)
theorem dX1_seeks_8 : decode cX1_seeks 8 = .ok (.iload 4, 2) := dk_21 4 (dk_at dksX1_seeks_0 8 rfl rfl)
theorem dX1_seeks_10 : decode cX1_seeks 10 = .ok (.aload_n 0, 1) := dk_42 (dk_at dksX1_seeks_0 10 rfl rfl)
theorem dX1_seeks_11 : decode cX1_seeks 11 = .ok (.getfield 40, 3) := dk_180 0 40 (dk_at dksX1_seeks_0 11 rfl rfl)
theorem dX1_seeks_14 : decode cX1_seeks 14 = .ok (.invokevirtual 121, 3) := dk_182 0 121 (dk_at dksX1_seeks_0 14 rfl rfl)
theorem dX1_seeks_17 : decode cX1_seeks 17 = .ok (.if_icmp .ge 76, 3) := dk_162 0 76 (dk_at dksX1_seeks_0 17 rfl rfl)
theorem dX1_seeks_20 : decode cX1_seeks 20 = .ok (.aload_n 0, 1) := dk_42 (dk_at dksX1_seeks_0 20 rfl rfl)
theorem dX1_seeks_21 : decode cX1_seeks 21 = .ok (.getfield 40, 3) := dk_180 0 40 (dk_at dksX1_seeks_0 21 rfl rfl)
theorem dX1_seeks_24 : decode cX1_seeks 24 = .ok (.iload 4, 2) := dk_21 4 (dk_at dksX1_seeks_1 0 rfl rfl)
theorem dX1_seeks_26 : decode cX1_seeks 26 = .ok (.invokevirtual 144, 3) := dk_182 0 144 (dk_at dksX1_seeks_1 2 rfl rfl)
theorem dX1_seeks_29 : decode cX1_seeks 29 = .ok (.checkcast 81, 3) := dk_192 0 81 (dk_at dksX1_seeks_1 5 rfl rfl)
theorem dX1_seeks_32 : decode cX1_seeks 32 = .ok (.astore 5, 2) := dk_58 5 (dk_at dksX1_seeks_1 8 rfl rfl)
theorem dX1_seeks_34 : decode cX1_seeks 34 = .ok (.aload 5, 2) := dk_25 5 (dk_at dksX1_seeks_1 10 rfl rfl)
theorem dX1_seeks_36 : decode cX1_seeks 36 = .ok (.getfield 217, 3) := dk_180 0 217 (dk_at dksX1_seeks_1 12 rfl rfl)
theorem dX1_seeks_39 : decode cX1_seeks 39 = .ok (.ifCond .eq 48, 3) := dk_153 0 48 (dk_at dksX1_seeks_1 15 rfl rfl)
theorem dX1_seeks_42 : decode cX1_seeks 42 = .ok (.aload 5, 2) := dk_25 5 (dk_at dksX1_seeks_1 18 rfl rfl)
theorem dX1_seeks_44 : decode cX1_seeks 44 = .ok (.getfield 148, 3) := dk_180 0 148 (dk_at dksX1_seeks_1 20 rfl rfl)
theorem dX1_seeks_47 : decode cX1_seeks 47 = .ok (.iload_n 1, 1) := dk_27 (dk_at dksX1_seeks_1 23 rfl rfl)
theorem dX1_seeks_48 : decode cX1_seeks 48 = .ok (.if_icmp .ne 39, 3) := dk_160 0 39 (dk_at dksX1_seeks_2 0 rfl rfl)
theorem dX1_seeks_51 : decode cX1_seeks 51 = .ok (.aload 5, 2) := dk_25 5 (dk_at dksX1_seeks_2 3 rfl rfl)
theorem dX1_seeks_53 : decode cX1_seeks 53 = .ok (.getfield 151, 3) := dk_180 0 151 (dk_at dksX1_seeks_2 5 rfl rfl)
theorem dX1_seeks_56 : decode cX1_seeks 56 = .ok (.iload_n 2, 1) := dk_28 (dk_at dksX1_seeks_2 8 rfl rfl)
theorem dX1_seeks_57 : decode cX1_seeks 57 = .ok (.if_icmp .ne 30, 3) := dk_160 0 30 (dk_at dksX1_seeks_2 9 rfl rfl)
theorem dX1_seeks_60 : decode cX1_seeks 60 = .ok (.aload 5, 2) := dk_25 5 (dk_at dksX1_seeks_2 12 rfl rfl)
theorem dX1_seeks_62 : decode cX1_seeks 62 = .ok (.getfield 237, 3) := dk_180 0 237 (dk_at dksX1_seeks_2 14 rfl rfl)
theorem dX1_seeks_65 : decode cX1_seeks 65 = .ok (.iconst 1, 1) := dk_4 (dk_at dksX1_seeks_2 17 rfl rfl)
theorem dX1_seeks_66 : decode cX1_seeks 66 = .ok (.if_icmp .eq 21, 3) := dk_159 0 21 (dk_at dksX1_seeks_2 18 rfl rfl)
theorem dX1_seeks_69 : decode cX1_seeks 69 = .ok (.aload_n 0, 1) := dk_42 (dk_at dksX1_seeks_2 21 rfl rfl)
theorem dX1_seeks_70 : decode cX1_seeks 70 = .ok (.getfield 83, 3) := dk_180 0 83 (dk_at dksX1_seeks_3 0 rfl rfl)
theorem dX1_seeks_73 : decode cX1_seeks 73 = .ok (.aload_n 0, 1) := dk_42 (dk_at dksX1_seeks_3 3 rfl rfl)
theorem dX1_seeks_74 : decode cX1_seeks 74 = .ok (.dup, 1) := dk_89 (dk_at dksX1_seeks_3 4 rfl rfl)
theorem dX1_seeks_75 : decode cX1_seeks 75 = .ok (.getfield 274, 3) := dk_180 1 18 (dk_at dksX1_seeks_3 5 rfl rfl)
theorem dX1_seeks_78 : decode cX1_seeks 78 = .ok (.dup_x1, 1) := dk_90 (dk_at dksX1_seeks_3 8 rfl rfl)
theorem dX1_seeks_79 : decode cX1_seeks 79 = .ok (.iconst 1, 1) := dk_4 (dk_at dksX1_seeks_3 9 rfl rfl)
theorem dX1_seeks_80 : decode cX1_seeks 80 = .ok (.iadd, 1) := dk_96 (dk_at dksX1_seeks_3 10 rfl rfl)
theorem dX1_seeks_81 : decode cX1_seeks 81 = .ok (.putfield 274, 3) := dk_181 1 18 (dk_at dksX1_seeks_3 11 rfl rfl)
theorem dX1_seeks_84 : decode cX1_seeks 84 = .ok (.aload 5, 2) := dk_25 5 (dk_at dksX1_seeks_3 14 rfl rfl)
theorem dX1_seeks_86 : decode cX1_seeks 86 = .ok (.aastore, 1) := dk_83 (dk_at dksX1_seeks_3 16 rfl rfl)
theorem dX1_seeks_87 : decode cX1_seeks 87 = .ok (.iinc 4 1, 3) := dk_132 4 1 (dk_at dksX1_seeks_3 17 rfl rfl)
theorem dX1_seeks_90 : decode cX1_seeks 90 = .ok (.goto (-82), 3) := dk_167 255 174 (dk_at dksX1_seeks_3 20 rfl rfl)
theorem dX1_seeks_93 : decode cX1_seeks 93 = .ok (.iconst 0, 1) := dk_3 (dk_at dksX1_seeks_3 23 rfl rfl)
theorem dX1_seeks_94 : decode cX1_seeks 94 = .ok (.istore 4, 2) := dk_54 4 (dk_at dksX1_seeks_4 0 rfl rfl)
theorem dX1_seeks_96 : decode cX1_seeks 96 = .ok (.iload 4, 2) := dk_21 4 (dk_at dksX1_seeks_4 2 rfl rfl)
theorem dX1_seeks_98 : decode cX1_seeks 98 = .ok (.aload_n 0, 1) := dk_42 (dk_at dksX1_seeks_4 4 rfl rfl)
theorem dX1_seeks_99 : decode cX1_seeks 99 = .ok (.getfield 274, 3) := dk_180 1 18 (dk_at dksX1_seeks_4 5 rfl rfl)
theorem dX1_seeks_102 : decode cX1_seeks 102 = .ok (.if_icmp .ge 80, 3) := dk_162 0 80 (dk_at dksX1_seeks_4 8 rfl rfl)
theorem dX1_seeks_105 : decode cX1_seeks 105 = .ok (.aload_n 0, 1) := dk_42 (dk_at dksX1_seeks_4 11 rfl rfl)
theorem dX1_seeks_106 : decode cX1_seeks 106 = .ok (.getfield 87, 3) := dk_180 0 87 (dk_at dksX1_seeks_4 12 rfl rfl)
theorem dX1_seeks_109 : decode cX1_seeks 109 = .ok (.iload 4, 2) := dk_21 4 (dk_at dksX1_seeks_4 15 rfl rfl)
theorem dX1_seeks_111 : decode cX1_seeks 111 = .ok (.iconst 0, 1) := dk_3 (dk_at dksX1_seeks_4 17 rfl rfl)
theorem dX1_seeks_112 : decode cX1_seeks 112 = .ok (.iastore, 1) := dk_79 (dk_at dksX1_seeks_4 18 rfl rfl)
theorem dX1_seeks_113 : decode cX1_seeks 113 = .ok (.iconst 0, 1) := dk_3 (dk_at dksX1_seeks_4 19 rfl rfl)
theorem dX1_seeks_114 : decode cX1_seeks 114 = .ok (.istore 5, 2) := dk_54 5 (dk_at dksX1_seeks_4 20 rfl rfl)
theorem dX1_seeks_116 : decode cX1_seeks 116 = .ok (.iload 5, 2) := dk_21 5 (dk_at dksX1_seeks_4 22 rfl rfl)
theorem dX1_seeks_118 : decode cX1_seeks 118 = .ok (.aload_n 0, 1) := dk_42 (dk_at dksX1_seeks_5 0 rfl rfl)
theorem dX1_seeks_119 : decode cX1_seeks 119 = .ok (.getfield 274, 3) := dk_180 1 18 (dk_at dksX1_seeks_5 1 rfl rfl)
theorem dX1_seeks_122 : decode cX1_seeks 122 = .ok (.if_icmp .ge 54, 3) := dk_162 0 54 (dk_at dksX1_seeks_5 4 rfl rfl)
theorem dX1_seeks_125 : decode cX1_seeks 125 = .ok (.iload 5, 2) := dk_21 5 (dk_at dksX1_seeks_5 7 rfl rfl)
theorem dX1_seeks_127 : decode cX1_seeks 127 = .ok (.iload 4, 2) := dk_21 4 (dk_at dksX1_seeks_5 9 rfl rfl)
theorem dX1_seeks_129 : decode cX1_seeks 129 = .ok (.if_icmp .eq 41, 3) := dk_159 0 41 (dk_at dksX1_seeks_5 11 rfl rfl)
theorem dX1_seeks_132 : decode cX1_seeks 132 = .ok (.aload_n 0, 1) := dk_42 (dk_at dksX1_seeks_5 14 rfl rfl)
theorem dX1_seeks_133 : decode cX1_seeks 133 = .ok (.getfield 83, 3) := dk_180 0 83 (dk_at dksX1_seeks_5 15 rfl rfl)
theorem dX1_seeks_136 : decode cX1_seeks 136 = .ok (.iload 4, 2) := dk_21 4 (dk_at dksX1_seeks_5 18 rfl rfl)
theorem dX1_seeks_138 : decode cX1_seeks 138 = .ok (.aaload, 1) := dk_50 (dk_at dksX1_seeks_5 20 rfl rfl)
theorem dX1_seeks_139 : decode cX1_seeks 139 = .ok (.aload_n 0, 1) := dk_42 (dk_at dksX1_seeks_5 21 rfl rfl)
theorem dX1_seeks_140 : decode cX1_seeks 140 = .ok (.getfield 83, 3) := dk_180 0 83 (dk_at dksX1_seeks_6 0 rfl rfl)
theorem dX1_seeks_143 : decode cX1_seeks 143 = .ok (.iload 5, 2) := dk_21 5 (dk_at dksX1_seeks_6 3 rfl rfl)
theorem dX1_seeks_145 : decode cX1_seeks 145 = .ok (.aaload, 1) := dk_50 (dk_at dksX1_seeks_6 5 rfl rfl)
theorem dX1_seeks_146 : decode cX1_seeks 146 = .ok (.aload_n 0, 1) := dk_42 (dk_at dksX1_seeks_6 6 rfl rfl)
theorem dX1_seeks_147 : decode cX1_seeks 147 = .ok (.getfield 13, 3) := dk_180 0 13 (dk_at dksX1_seeks_6 7 rfl rfl)
theorem dX1_seeks_150 : decode cX1_seeks 150 = .ok (.invokevirtual 277, 3) := dk_182 1 21 (dk_at dksX1_seeks_6 10 rfl rfl)
theorem dX1_seeks_153 : decode cX1_seeks 153 = .ok (.ifCond .eq 17, 3) := dk_153 0 17 (dk_at dksX1_seeks_6 13 rfl rfl)
theorem dX1_seeks_156 : decode cX1_seeks 156 = .ok (.aload_n 0, 1) := dk_42 (dk_at dksX1_seeks_6 16 rfl rfl)
theorem dX1_seeks_157 : decode cX1_seeks 157 = .ok (.getfield 87, 3) := dk_180 0 87 (dk_at dksX1_seeks_6 17 rfl rfl)
theorem dX1_seeks_160 : decode cX1_seeks 160 = .ok (.iload 4, 2) := dk_21 4 (dk_at dksX1_seeks_6 20 rfl rfl)
theorem dX1_seeks_162 : decode cX1_seeks 162 = .ok (.dup2, 1) := dk_92 (dk_at dksX1_seeks_6 22 rfl rfl)
theorem dX1_seeks_163 : decode cX1_seeks 163 = .ok (.iaload, 1) := dk_46 (dk_at dksX1_seeks_6 23 rfl rfl)
theorem dX1_seeks_164 : decode cX1_seeks 164 = .ok (.iconst 1, 1) := dk_4 (dk_at dksX1_seeks_7 0 rfl rfl)
theorem dX1_seeks_165 : decode cX1_seeks 165 = .ok (.iload 5, 2) := dk_21 5 (dk_at dksX1_seeks_7 1 rfl rfl)
theorem dX1_seeks_167 : decode cX1_seeks 167 = .ok (.ishl, 1) := dk_120 (dk_at dksX1_seeks_7 3 rfl rfl)
theorem dX1_seeks_168 : decode cX1_seeks 168 = .ok (.ior, 1) := dk_128 (dk_at dksX1_seeks_7 4 rfl rfl)
theorem dX1_seeks_169 : decode cX1_seeks 169 = .ok (.iastore, 1) := dk_79 (dk_at dksX1_seeks_7 5 rfl rfl)
theorem dX1_seeks_170 : decode cX1_seeks 170 = .ok (.iinc 5 1, 3) := dk_132 5 1 (dk_at dksX1_seeks_7 6 rfl rfl)
theorem dX1_seeks_173 : decode cX1_seeks 173 = .ok (.goto (-57), 3) := dk_167 255 199 (dk_at dksX1_seeks_7 9 rfl rfl)
theorem dX1_seeks_176 : decode cX1_seeks 176 = .ok (.iinc 4 1, 3) := dk_132 4 1 (dk_at dksX1_seeks_7 12 rfl rfl)
theorem dX1_seeks_179 : decode cX1_seeks 179 = .ok (.goto (-83), 3) := dk_167 255 173 (dk_at dksX1_seeks_7 15 rfl rfl)
theorem dX1_seeks_182 : decode cX1_seeks 182 = .ok (.aload_n 0, 1) := dk_42 (dk_at dksX1_seeks_7 18 rfl rfl)
theorem dX1_seeks_183 : decode cX1_seeks 183 = .ok (.getfield 274, 3) := dk_180 1 18 (dk_at dksX1_seeks_7 19 rfl rfl)
theorem dX1_seeks_186 : decode cX1_seeks 186 = .ok (.iconst 1, 1) := dk_4 (dk_at dksX1_seeks_7 22 rfl rfl)
theorem dX1_seeks_187 : decode cX1_seeks 187 = .ok (.iadd, 1) := dk_96 (dk_at dksX1_seeks_7 23 rfl rfl)
theorem dX1_seeks_188 : decode cX1_seeks 188 = .ok (.istore 4, 2) := dk_54 4 (dk_at dksX1_seeks_8 0 rfl rfl)
theorem dX1_seeks_190 : decode cX1_seeks 190 = .ok (.iconst 0, 1) := dk_3 (dk_at dksX1_seeks_8 2 rfl rfl)
theorem dX1_seeks_191 : decode cX1_seeks 191 = .ok (.istore 5, 2) := dk_54 5 (dk_at dksX1_seeks_8 3 rfl rfl)
theorem dX1_seeks_193 : decode cX1_seeks 193 = .ok (.iconst 0, 1) := dk_3 (dk_at dksX1_seeks_8 5 rfl rfl)
theorem dX1_seeks_194 : decode cX1_seeks 194 = .ok (.istore 6, 2) := dk_54 6 (dk_at dksX1_seeks_8 6 rfl rfl)
theorem dX1_seeks_196 : decode cX1_seeks 196 = .ok (.iconst 0, 1) := dk_3 (dk_at dksX1_seeks_8 8 rfl rfl)
theorem dX1_seeks_197 : decode cX1_seeks 197 = .ok (.istore 7, 2) := dk_54 7 (dk_at dksX1_seeks_8 9 rfl rfl)
theorem dX1_seeks_199 : decode cX1_seeks 199 = .ok (.iload 7, 2) := dk_21 7 (dk_at dksX1_seeks_8 11 rfl rfl)
theorem dX1_seeks_201 : decode cX1_seeks 201 = .ok (.iconst 1, 1) := dk_4 (dk_at dksX1_seeks_8 13 rfl rfl)
theorem dX1_seeks_202 : decode cX1_seeks 202 = .ok (.aload_n 0, 1) := dk_42 (dk_at dksX1_seeks_8 14 rfl rfl)
theorem dX1_seeks_203 : decode cX1_seeks 203 = .ok (.getfield 274, 3) := dk_180 1 18 (dk_at dksX1_seeks_8 15 rfl rfl)
theorem dX1_seeks_206 : decode cX1_seeks 206 = .ok (.ishl, 1) := dk_120 (dk_at dksX1_seeks_8 18 rfl rfl)
theorem dX1_seeks_207 : decode cX1_seeks 207 = .ok (.if_icmp .ge 101, 3) := dk_162 0 101 (dk_at dksX1_seeks_8 19 rfl rfl)
theorem dX1_seeks_210 : decode cX1_seeks 210 = .ok (.iload 7, 2) := dk_21 7 (dk_at dksX1_seeks_8 22 rfl rfl)
theorem dX1_seeks_212 : decode cX1_seeks 212 = .ok (.invokestatic 281, 3) := dk_184 1 25 (dk_at dksX1_seeks_9 0 rfl rfl)
theorem dX1_seeks_215 : decode cX1_seeks 215 = .ok (.istore 8, 2) := dk_54 8 (dk_at dksX1_seeks_9 3 rfl rfl)
theorem dX1_seeks_217 : decode cX1_seeks 217 = .ok (.iload 8, 2) := dk_21 8 (dk_at dksX1_seeks_9 5 rfl rfl)
theorem dX1_seeks_219 : decode cX1_seeks 219 = .ok (.iload 4, 2) := dk_21 4 (dk_at dksX1_seeks_9 7 rfl rfl)
theorem dX1_seeks_221 : decode cX1_seeks 221 = .ok (.if_icmp .gt 81, 3) := dk_163 0 81 (dk_at dksX1_seeks_9 9 rfl rfl)
theorem dX1_seeks_224 : decode cX1_seeks 224 = .ok (.aload_n 0, 1) := dk_42 (dk_at dksX1_seeks_9 12 rfl rfl)
theorem dX1_seeks_225 : decode cX1_seeks 225 = .ok (.iload 7, 2) := dk_21 7 (dk_at dksX1_seeks_9 13 rfl rfl)
theorem dX1_seeks_227 : decode cX1_seeks 227 = .ok (.invokevirtual 287, 3) := dk_182 1 31 (dk_at dksX1_seeks_9 15 rfl rfl)
theorem dX1_seeks_230 : decode cX1_seeks 230 = .ok (.ifCond .ne 6, 3) := dk_154 0 6 (dk_at dksX1_seeks_9 18 rfl rfl)
theorem dX1_seeks_233 : decode cX1_seeks 233 = .ok (.goto 69, 3) := dk_167 0 69 (dk_at dksX1_seeks_9 21 rfl rfl)
theorem dX1_seeks_236 : decode cX1_seeks 236 = .ok (.iload 8, 2) := dk_21 8 (dk_at dksX1_seeks_10 0 rfl rfl)
theorem dX1_seeks_238 : decode cX1_seeks 238 = .ok (.iload 4, 2) := dk_21 4 (dk_at dksX1_seeks_10 2 rfl rfl)
theorem dX1_seeks_240 : decode cX1_seeks 240 = .ok (.if_icmp .ge 21, 3) := dk_162 0 21 (dk_at dksX1_seeks_10 4 rfl rfl)
theorem dX1_seeks_243 : decode cX1_seeks 243 = .ok (.iload 8, 2) := dk_21 8 (dk_at dksX1_seeks_10 7 rfl rfl)
theorem dX1_seeks_245 : decode cX1_seeks 245 = .ok (.istore 4, 2) := dk_54 4 (dk_at dksX1_seeks_10 9 rfl rfl)
theorem dX1_seeks_247 : decode cX1_seeks 247 = .ok (.iload 7, 2) := dk_21 7 (dk_at dksX1_seeks_10 11 rfl rfl)
theorem dX1_seeks_249 : decode cX1_seeks 249 = .ok (.istore 5, 2) := dk_54 5 (dk_at dksX1_seeks_10 13 rfl rfl)
theorem dX1_seeks_251 : decode cX1_seeks 251 = .ok (.iload 7, 2) := dk_21 7 (dk_at dksX1_seeks_10 15 rfl rfl)
theorem dX1_seeks_253 : decode cX1_seeks 253 = .ok (.istore 6, 2) := dk_54 6 (dk_at dksX1_seeks_10 17 rfl rfl)
theorem dX1_seeks_255 : decode cX1_seeks 255 = .ok (.aload_n 0, 1) := dk_42 (dk_at dksX1_seeks_10 19 rfl rfl)
theorem dX1_seeks_256 : decode cX1_seeks 256 = .ok (.iload 7, 2) := dk_21 7 (dk_at dksX1_seeks_10 20 rfl rfl)
theorem dX1_seeks_258 : decode cX1_seeks 258 = .ok (.putfield 290, 3) := dk_181 1 34 (dk_at dksX1_seeks_11 0 rfl rfl)
theorem dX1_seeks_261 : decode cX1_seeks 261 = .ok (.iload 5, 2) := dk_21 5 (dk_at dksX1_seeks_11 3 rfl rfl)
theorem dX1_seeks_263 : decode cX1_seeks 263 = .ok (.iload 7, 2) := dk_21 7 (dk_at dksX1_seeks_11 5 rfl rfl)
theorem dX1_seeks_265 : decode cX1_seeks 265 = .ok (.iand, 1) := dk_126 (dk_at dksX1_seeks_11 7 rfl rfl)
theorem dX1_seeks_266 : decode cX1_seeks 266 = .ok (.istore 5, 2) := dk_54 5 (dk_at dksX1_seeks_11 8 rfl rfl)
theorem dX1_seeks_268 : decode cX1_seeks 268 = .ok (.iload 6, 2) := dk_21 6 (dk_at dksX1_seeks_11 10 rfl rfl)
theorem dX1_seeks_270 : decode cX1_seeks 270 = .ok (.iload 7, 2) := dk_21 7 (dk_at dksX1_seeks_11 12 rfl rfl)
theorem dX1_seeks_272 : decode cX1_seeks 272 = .ok (.ior, 1) := dk_128 (dk_at dksX1_seeks_11 14 rfl rfl)
theorem dX1_seeks_273 : decode cX1_seeks 273 = .ok (.istore 6, 2) := dk_54 6 (dk_at dksX1_seeks_11 15 rfl rfl)
theorem dX1_seeks_275 : decode cX1_seeks 275 = .ok (.iload 7, 2) := dk_21 7 (dk_at dksX1_seeks_11 17 rfl rfl)
theorem dX1_seeks_277 : decode cX1_seeks 277 = .ok (.aload_n 0, 1) := dk_42 (dk_at dksX1_seeks_11 19 rfl rfl)
theorem dX1_seeks_278 : decode cX1_seeks 278 = .ok (.getfield 290, 3) := dk_180 1 34 (dk_at dksX1_seeks_11 20 rfl rfl)
theorem dX1_seeks_281 : decode cX1_seeks 281 = .ok (.ixor, 1) := dk_130 (dk_at dksX1_seeks_11 23 rfl rfl)
theorem dX1_seeks_282 : decode cX1_seeks 282 = .ok (.istore 9, 2) := dk_54 9 (dk_at dksX1_seeks_12 0 rfl rfl)
theorem dX1_seeks_284 : decode cX1_seeks 284 = .ok (.iload 7, 2) := dk_21 7 (dk_at dksX1_seeks_12 2 rfl rfl)
theorem dX1_seeks_286 : decode cX1_seeks 286 = .ok (.iload 9, 2) := dk_21 9 (dk_at dksX1_seeks_12 4 rfl rfl)
theorem dX1_seeks_288 : decode cX1_seeks 288 = .ok (.iand, 1) := dk_126 (dk_at dksX1_seeks_12 6 rfl rfl)
theorem dX1_seeks_289 : decode cX1_seeks 289 = .ok (.iload 9, 2) := dk_21 9 (dk_at dksX1_seeks_12 7 rfl rfl)
theorem dX1_seeks_291 : decode cX1_seeks 291 = .ok (.ineg, 1) := dk_116 (dk_at dksX1_seeks_12 9 rfl rfl)
theorem dX1_seeks_292 : decode cX1_seeks 292 = .ok (.iand, 1) := dk_126 (dk_at dksX1_seeks_12 10 rfl rfl)
theorem dX1_seeks_293 : decode cX1_seeks 293 = .ok (.ifCond .eq 9, 3) := dk_153 0 9 (dk_at dksX1_seeks_12 11 rfl rfl)
theorem dX1_seeks_296 : decode cX1_seeks 296 = .ok (.aload_n 0, 1) := dk_42 (dk_at dksX1_seeks_12 14 rfl rfl)
theorem dX1_seeks_297 : decode cX1_seeks 297 = .ok (.iload 7, 2) := dk_21 7 (dk_at dksX1_seeks_12 15 rfl rfl)
theorem dX1_seeks_299 : decode cX1_seeks 299 = .ok (.putfield 290, 3) := dk_181 1 34 (dk_at dksX1_seeks_12 17 rfl rfl)
theorem dX1_seeks_302 : decode cX1_seeks 302 = .ok (.iinc 7 1, 3) := dk_132 7 1 (dk_at dksX1_seeks_12 20 rfl rfl)
theorem dX1_seeks_305 : decode cX1_seeks 305 = .ok (.goto (-106), 3) := dk_167 255 150 (dk_at dksX1_seeks_13 0 rfl rfl)
theorem dX1_seeks_308 : decode cX1_seeks 308 = .ok (.iconst 0, 1) := dk_3 (dk_at dksX1_seeks_13 3 rfl rfl)
theorem dX1_seeks_309 : decode cX1_seeks 309 = .ok (.istore 7, 2) := dk_54 7 (dk_at dksX1_seeks_13 4 rfl rfl)
theorem dX1_seeks_311 : decode cX1_seeks 311 = .ok (.iload 7, 2) := dk_21 7 (dk_at dksX1_seeks_13 6 rfl rfl)
theorem dX1_seeks_313 : decode cX1_seeks 313 = .ok (.aload_n 0, 1) := dk_42 (dk_at dksX1_seeks_13 8 rfl rfl)
theorem dX1_seeks_314 : decode cX1_seeks 314 = .ok (.getfield 274, 3) := dk_180 1 18 (dk_at dksX1_seeks_13 9 rfl rfl)
theorem dX1_seeks_317 : decode cX1_seeks 317 = .ok (.if_icmp .ge 54, 3) := dk_162 0 54 (dk_at dksX1_seeks_13 12 rfl rfl)
theorem dX1_seeks_320 : decode cX1_seeks 320 = .ok (.iload_n 3, 1) := dk_29 (dk_at dksX1_seeks_13 15 rfl rfl)
theorem dX1_seeks_321 : decode cX1_seeks 321 = .ok (.ifCond .eq 50, 3) := dk_153 0 50 (dk_at dksX1_seeks_13 16 rfl rfl)
theorem dX1_seeks_324 : decode cX1_seeks 324 = .ok (.aload_n 0, 1) := dk_42 (dk_at dksX1_seeks_13 19 rfl rfl)
theorem dX1_seeks_325 : decode cX1_seeks 325 = .ok (.getfield 83, 3) := dk_180 0 83 (dk_at dksX1_seeks_13 20 rfl rfl)
theorem dX1_seeks_328 : decode cX1_seeks 328 = .ok (.iload 7, 2) := dk_21 7 (dk_at dksX1_seeks_14 0 rfl rfl)
theorem dX1_seeks_330 : decode cX1_seeks 330 = .ok (.aaload, 1) := dk_50 (dk_at dksX1_seeks_14 2 rfl rfl)
theorem dX1_seeks_331 : decode cX1_seeks 331 = .ok (.iload 5, 2) := dk_21 5 (dk_at dksX1_seeks_14 3 rfl rfl)
theorem dX1_seeks_333 : decode cX1_seeks 333 = .ok (.iload 7, 2) := dk_21 7 (dk_at dksX1_seeks_14 5 rfl rfl)
theorem dX1_seeks_335 : decode cX1_seeks 335 = .ok (.ishr, 1) := dk_122 (dk_at dksX1_seeks_14 7 rfl rfl)
theorem dX1_seeks_336 : decode cX1_seeks 336 = .ok (.iconst 1, 1) := dk_4 (dk_at dksX1_seeks_14 8 rfl rfl)
theorem dX1_seeks_337 : decode cX1_seeks 337 = .ok (.iand, 1) := dk_126 (dk_at dksX1_seeks_14 9 rfl rfl)
theorem dX1_seeks_338 : decode cX1_seeks 338 = .ok (.iconst 1, 1) := dk_4 (dk_at dksX1_seeks_14 10 rfl rfl)
theorem dX1_seeks_339 : decode cX1_seeks 339 = .ok (.if_icmp .ne 7, 3) := dk_160 0 7 (dk_at dksX1_seeks_14 11 rfl rfl)
theorem dX1_seeks_342 : decode cX1_seeks 342 = .ok (.iconst 2, 1) := dk_5 (dk_at dksX1_seeks_14 14 rfl rfl)
theorem dX1_seeks_343 : decode cX1_seeks 343 = .ok (.goto 19, 3) := dk_167 0 19 (dk_at dksX1_seeks_14 15 rfl rfl)
theorem dX1_seeks_346 : decode cX1_seeks 346 = .ok (.iload 6, 2) := dk_21 6 (dk_at dksX1_seeks_14 18 rfl rfl)
theorem dX1_seeks_348 : decode cX1_seeks 348 = .ok (.iload 7, 2) := dk_21 7 (dk_at dksX1_seeks_14 20 rfl rfl)
theorem dX1_seeks_350 : decode cX1_seeks 350 = .ok (.ishr, 1) := dk_122 (dk_at dksX1_seeks_14 22 rfl rfl)
theorem dX1_seeks_351 : decode cX1_seeks 351 = .ok (.iconst 1, 1) := dk_4 (dk_at dksX1_seeks_14 23 rfl rfl)
theorem dX1_seeks_352 : decode cX1_seeks 352 = .ok (.iand, 1) := dk_126 (dk_at dksX1_seeks_15 0 rfl rfl)
theorem dX1_seeks_353 : decode cX1_seeks 353 = .ok (.iconst 1, 1) := dk_4 (dk_at dksX1_seeks_15 1 rfl rfl)
theorem dX1_seeks_354 : decode cX1_seeks 354 = .ok (.if_icmp .ne 7, 3) := dk_160 0 7 (dk_at dksX1_seeks_15 2 rfl rfl)
theorem dX1_seeks_357 : decode cX1_seeks 357 = .ok (.iconst 3, 1) := dk_6 (dk_at dksX1_seeks_15 5 rfl rfl)
theorem dX1_seeks_358 : decode cX1_seeks 358 = .ok (.goto 4, 3) := dk_167 0 4 (dk_at dksX1_seeks_15 6 rfl rfl)
theorem dX1_seeks_361 : decode cX1_seeks 361 = .ok (.iconst 0, 1) := dk_3 (dk_at dksX1_seeks_15 9 rfl rfl)
theorem dX1_seeks_362 : decode cX1_seeks 362 = .ok (.putfield 237, 3) := dk_181 0 237 (dk_at dksX1_seeks_15 10 rfl rfl)
theorem dX1_seeks_365 : decode cX1_seeks 365 = .ok (.iinc 7 1, 3) := dk_132 7 1 (dk_at dksX1_seeks_15 13 rfl rfl)
theorem dX1_seeks_368 : decode cX1_seeks 368 = .ok (.goto (-57), 3) := dk_167 255 199 (dk_at dksX1_seeks_15 16 rfl rfl)
theorem dX1_seeks_371 : decode cX1_seeks 371 = .ok (.iload 4, 2) := dk_21 4 (dk_at dksX1_seeks_15 19 rfl rfl)
theorem dX1_seeks_373 : decode cX1_seeks 373 = .ok (.ireturn, 1) := dk_172 (dk_at dksX1_seeks_15 21 rfl rfl)
abbrev cX1_parts : ByteArray := prog_1_method_25_code
def yX1_parts : MethodName := ⟨RX1, "parts", "(I)Z"⟩
def dkwX1_parts_1 : List UInt8 := [27, 2, 130, 126, 153, 0, 5, 3, 172, 132, 2, 1, 167, 255, 222, 4, 172]
abbrev dktX1_parts_1 : List UInt8 := dkwX1_parts_1 ++ []
def dkwX1_parts_0 : List UInt8 := [3, 61, 28, 42, 180, 1, 18, 162, 0, 32, 27, 28, 122, 4, 126, 154, 0, 18, 42, 180, 0, 87, 28, 46]
abbrev dktX1_parts_0 : List UInt8 := dkwX1_parts_0 ++ dktX1_parts_1
theorem dksX1_parts_0 : cX1_parts.data.toList.drop 0 = dktX1_parts_0 := by decide +kernel
theorem dksX1_parts_1 : cX1_parts.data.toList.drop 24 = dktX1_parts_1 := dk_seg dksX1_parts_0 24 rfl rfl
theorem dX1_parts_0 : decode cX1_parts 0 = .ok (.iconst 0, 1) := dk_3 (dk_at dksX1_parts_0 0 rfl rfl)
theorem dX1_parts_1 : decode cX1_parts 1 = .ok (.istore_n 2, 1) := dk_61 (dk_at dksX1_parts_0 1 rfl rfl)
theorem dX1_parts_2 : decode cX1_parts 2 = .ok (.iload_n 2, 1) := dk_28 (dk_at dksX1_parts_0 2 rfl rfl)
theorem dX1_parts_3 : decode cX1_parts 3 = .ok (.aload_n 0, 1) := dk_42 (dk_at dksX1_parts_0 3 rfl rfl)
theorem dX1_parts_4 : decode cX1_parts 4 = .ok (.getfield 274, 3) := dk_180 1 18 (dk_at dksX1_parts_0 4 rfl rfl)
theorem dX1_parts_7 : decode cX1_parts 7 = .ok (.if_icmp .ge 32, 3) := dk_162 0 32 (dk_at dksX1_parts_0 7 rfl rfl)
theorem dX1_parts_10 : decode cX1_parts 10 = .ok (.iload_n 1, 1) := dk_27 (dk_at dksX1_parts_0 10 rfl rfl)
theorem dX1_parts_11 : decode cX1_parts 11 = .ok (.iload_n 2, 1) := dk_28 (dk_at dksX1_parts_0 11 rfl rfl)
theorem dX1_parts_12 : decode cX1_parts 12 = .ok (.ishr, 1) := dk_122 (dk_at dksX1_parts_0 12 rfl rfl)
theorem dX1_parts_13 : decode cX1_parts 13 = .ok (.iconst 1, 1) := dk_4 (dk_at dksX1_parts_0 13 rfl rfl)
theorem dX1_parts_14 : decode cX1_parts 14 = .ok (.iand, 1) := dk_126 (dk_at dksX1_parts_0 14 rfl rfl)
theorem dX1_parts_15 : decode cX1_parts 15 = .ok (.ifCond .ne 18, 3) := dk_154 0 18 (dk_at dksX1_parts_0 15 rfl rfl)
theorem dX1_parts_18 : decode cX1_parts 18 = .ok (.aload_n 0, 1) := dk_42 (dk_at dksX1_parts_0 18 rfl rfl)
theorem dX1_parts_19 : decode cX1_parts 19 = .ok (.getfield 87, 3) := dk_180 0 87 (dk_at dksX1_parts_0 19 rfl rfl)
theorem dX1_parts_22 : decode cX1_parts 22 = .ok (.iload_n 2, 1) := dk_28 (dk_at dksX1_parts_0 22 rfl rfl)
theorem dX1_parts_23 : decode cX1_parts 23 = .ok (.iaload, 1) := dk_46 (dk_at dksX1_parts_0 23 rfl rfl)
theorem dX1_parts_24 : decode cX1_parts 24 = .ok (.iload_n 1, 1) := dk_27 (dk_at dksX1_parts_1 0 rfl rfl)
theorem dX1_parts_25 : decode cX1_parts 25 = .ok (.iconst (-1), 1) := dk_2 (dk_at dksX1_parts_1 1 rfl rfl)
theorem dX1_parts_26 : decode cX1_parts 26 = .ok (.ixor, 1) := dk_130 (dk_at dksX1_parts_1 2 rfl rfl)
theorem dX1_parts_27 : decode cX1_parts 27 = .ok (.iand, 1) := dk_126 (dk_at dksX1_parts_1 3 rfl rfl)
theorem dX1_parts_28 : decode cX1_parts 28 = .ok (.ifCond .eq 5, 3) := dk_153 0 5 (dk_at dksX1_parts_1 4 rfl rfl)
theorem dX1_parts_31 : decode cX1_parts 31 = .ok (.iconst 0, 1) := dk_3 (dk_at dksX1_parts_1 7 rfl rfl)
theorem dX1_parts_32 : decode cX1_parts 32 = .ok (.ireturn, 1) := dk_172 (dk_at dksX1_parts_1 8 rfl rfl)
theorem dX1_parts_33 : decode cX1_parts 33 = .ok (.iinc 2 1, 3) := dk_132 2 1 (dk_at dksX1_parts_1 9 rfl rfl)
theorem dX1_parts_36 : decode cX1_parts 36 = .ok (.goto (-34), 3) := dk_167 255 222 (dk_at dksX1_parts_1 12 rfl rfl)
theorem dX1_parts_39 : decode cX1_parts 39 = .ok (.iconst 1, 1) := dk_4 (dk_at dksX1_parts_1 15 rfl rfl)
theorem dX1_parts_40 : decode cX1_parts 40 = .ok (.ireturn, 1) := dk_172 (dk_at dksX1_parts_1 16 rfl rfl)
abbrev cX1_leans : ByteArray := prog_1_method_30_code
def yX1_leans : MethodName := ⟨RX1, "leans", "()V"⟩
def dkwX1_leans_7 : List UInt8 := [167, 0, 16, 42, 180, 0, 74, 27, 46, 42, 180, 0, 78, 27, 46, 108, 79, 132, 1, 1, 167, 255, 214, 177]
abbrev dktX1_leans_7 : List UInt8 := dkwX1_leans_7 ++ []
def dkwX1_leans_6 : List UInt8 := [60, 27, 16, 8, 162, 0, 42, 42, 180, 0, 74, 27, 42, 180, 0, 78, 27, 46, 5, 162, 0, 7, 3]
abbrev dktX1_leans_6 : List UInt8 := dkwX1_leans_6 ++ dktX1_leans_7
def dkwX1_leans_5 : List UInt8 := [180, 1, 7, 25, 4, 180, 1, 7, 100, 96, 79, 132, 2, 1, 167, 255, 170, 132, 1, 1, 167, 255, 151, 3]
abbrev dktX1_leans_5 : List UInt8 := dkwX1_leans_5 ++ dktX1_leans_6
def dkwX1_leans_4 : List UInt8 := [42, 180, 0, 78, 45, 180, 0, 148, 92, 46, 4, 96, 79, 42, 180, 0, 74, 45, 180, 0, 148, 92, 46, 45]
abbrev dktX1_leans_4 : List UInt8 := dkwX1_leans_4 ++ dktX1_leans_5
def dkwX1_leans_3 : List UInt8 := [180, 0, 71, 28, 182, 0, 144, 192, 0, 81, 58, 4, 45, 25, 4, 182, 1, 58, 154, 0, 6, 167, 0, 38]
abbrev dktX1_leans_3 : List UInt8 := dkwX1_leans_3 ++ dktX1_leans_4
def dkwX1_leans_2 : List UInt8 := [180, 0, 71, 182, 0, 121, 162, 0, 81, 42, 180, 0, 71, 27, 182, 0, 144, 192, 0, 81, 78, 42]
abbrev dktX1_leans_2 : List UInt8 := dkwX1_leans_2 ++ dktX1_leans_3
def dkwX1_leans_1 : List UInt8 := [132, 1, 1, 167, 255, 233, 3, 60, 27, 42, 180, 0, 71, 182, 0, 121, 162, 0, 100, 3, 61, 28, 42]
abbrev dktX1_leans_1 : List UInt8 := dkwX1_leans_1 ++ dktX1_leans_2
def dkwX1_leans_0 : List UInt8 := [3, 60, 27, 16, 8, 162, 0, 23, 42, 180, 0, 74, 27, 3, 79, 42, 180, 0, 78, 27, 3, 79]
abbrev dktX1_leans_0 : List UInt8 := dkwX1_leans_0 ++ dktX1_leans_1
theorem dksX1_leans_0 : cX1_leans.data.toList.drop 0 = dktX1_leans_0 := by decide +kernel
theorem dksX1_leans_1 : cX1_leans.data.toList.drop 22 = dktX1_leans_1 := dk_seg dksX1_leans_0 22 rfl rfl
theorem dksX1_leans_2 : cX1_leans.data.toList.drop 45 = dktX1_leans_2 := dk_seg dksX1_leans_1 23 rfl rfl
theorem dksX1_leans_3 : cX1_leans.data.toList.drop 67 = dktX1_leans_3 := dk_seg dksX1_leans_2 22 rfl rfl
theorem dksX1_leans_4 : cX1_leans.data.toList.drop 91 = dktX1_leans_4 := dk_seg dksX1_leans_3 24 rfl rfl
theorem dksX1_leans_5 : cX1_leans.data.toList.drop 115 = dktX1_leans_5 := dk_seg dksX1_leans_4 24 rfl rfl
theorem dksX1_leans_6 : cX1_leans.data.toList.drop 139 = dktX1_leans_6 := dk_seg dksX1_leans_5 24 rfl rfl
theorem dksX1_leans_7 : cX1_leans.data.toList.drop 162 = dktX1_leans_7 := dk_seg dksX1_leans_6 23 rfl rfl
theorem dX1_leans_0 : decode cX1_leans 0 = .ok (.iconst 0, 1) := dk_3 (dk_at dksX1_leans_0 0 rfl rfl)
theorem dX1_leans_1 : decode cX1_leans 1 = .ok (.istore_n 1, 1) := dk_60 (dk_at dksX1_leans_0 1 rfl rfl)
theorem dX1_leans_2 : decode cX1_leans 2 = .ok (.iload_n 1, 1) := dk_27 (dk_at dksX1_leans_0 2 rfl rfl)
theorem dX1_leans_3 : decode cX1_leans 3 = .ok (.bipush 8, 2) := dk_16 8 (dk_at dksX1_leans_0 3 rfl rfl)
theorem dX1_leans_5 : decode cX1_leans 5 = .ok (.if_icmp .ge 23, 3) := dk_162 0 23 (dk_at dksX1_leans_0 5 rfl rfl)
theorem dX1_leans_8 : decode cX1_leans 8 = .ok (.aload_n 0, 1) := dk_42 (dk_at dksX1_leans_0 8 rfl rfl)
theorem dX1_leans_9 : decode cX1_leans 9 = .ok (.getfield 74, 3) := dk_180 0 74 (dk_at dksX1_leans_0 9 rfl rfl)
theorem dX1_leans_12 : decode cX1_leans 12 = .ok (.iload_n 1, 1) := dk_27 (dk_at dksX1_leans_0 12 rfl rfl)
theorem dX1_leans_13 : decode cX1_leans 13 = .ok (.iconst 0, 1) := dk_3 (dk_at dksX1_leans_0 13 rfl rfl)
theorem dX1_leans_14 : decode cX1_leans 14 = .ok (.iastore, 1) := dk_79 (dk_at dksX1_leans_0 14 rfl rfl)
theorem dX1_leans_15 : decode cX1_leans 15 = .ok (.aload_n 0, 1) := dk_42 (dk_at dksX1_leans_0 15 rfl rfl)
theorem dX1_leans_16 : decode cX1_leans 16 = .ok (.getfield 78, 3) := dk_180 0 78 (dk_at dksX1_leans_0 16 rfl rfl)
theorem dX1_leans_19 : decode cX1_leans 19 = .ok (.iload_n 1, 1) := dk_27 (dk_at dksX1_leans_0 19 rfl rfl)
theorem dX1_leans_20 : decode cX1_leans 20 = .ok (.iconst 0, 1) := dk_3 (dk_at dksX1_leans_0 20 rfl rfl)
theorem dX1_leans_21 : decode cX1_leans 21 = .ok (.iastore, 1) := dk_79 (dk_at dksX1_leans_0 21 rfl rfl)
theorem dX1_leans_22 : decode cX1_leans 22 = .ok (.iinc 1 1, 3) := dk_132 1 1 (dk_at dksX1_leans_1 0 rfl rfl)
theorem dX1_leans_25 : decode cX1_leans 25 = .ok (.goto (-23), 3) := dk_167 255 233 (dk_at dksX1_leans_1 3 rfl rfl)
theorem dX1_leans_28 : decode cX1_leans 28 = .ok (.iconst 0, 1) := dk_3 (dk_at dksX1_leans_1 6 rfl rfl)
theorem dX1_leans_29 : decode cX1_leans 29 = .ok (.istore_n 1, 1) := dk_60 (dk_at dksX1_leans_1 7 rfl rfl)
theorem dX1_leans_30 : decode cX1_leans 30 = .ok (.iload_n 1, 1) := dk_27 (dk_at dksX1_leans_1 8 rfl rfl)
theorem dX1_leans_31 : decode cX1_leans 31 = .ok (.aload_n 0, 1) := dk_42 (dk_at dksX1_leans_1 9 rfl rfl)
theorem dX1_leans_32 : decode cX1_leans 32 = .ok (.getfield 71, 3) := dk_180 0 71 (dk_at dksX1_leans_1 10 rfl rfl)
theorem dX1_leans_35 : decode cX1_leans 35 = .ok (.invokevirtual 121, 3) := dk_182 0 121 (dk_at dksX1_leans_1 13 rfl rfl)
theorem dX1_leans_38 : decode cX1_leans 38 = .ok (.if_icmp .ge 100, 3) := dk_162 0 100 (dk_at dksX1_leans_1 16 rfl rfl)
theorem dX1_leans_41 : decode cX1_leans 41 = .ok (.iconst 0, 1) := dk_3 (dk_at dksX1_leans_1 19 rfl rfl)
theorem dX1_leans_42 : decode cX1_leans 42 = .ok (.istore_n 2, 1) := dk_61 (dk_at dksX1_leans_1 20 rfl rfl)
theorem dX1_leans_43 : decode cX1_leans 43 = .ok (.iload_n 2, 1) := dk_28 (dk_at dksX1_leans_1 21 rfl rfl)
theorem dX1_leans_44 : decode cX1_leans 44 = .ok (.aload_n 0, 1) := dk_42 (dk_at dksX1_leans_1 22 rfl rfl)
theorem dX1_leans_45 : decode cX1_leans 45 = .ok (.getfield 71, 3) := dk_180 0 71 (dk_at dksX1_leans_2 0 rfl rfl)
theorem dX1_leans_48 : decode cX1_leans 48 = .ok (.invokevirtual 121, 3) := dk_182 0 121 (dk_at dksX1_leans_2 3 rfl rfl)
theorem dX1_leans_51 : decode cX1_leans 51 = .ok (.if_icmp .ge 81, 3) := dk_162 0 81 (dk_at dksX1_leans_2 6 rfl rfl)
theorem dX1_leans_54 : decode cX1_leans 54 = .ok (.aload_n 0, 1) := dk_42 (dk_at dksX1_leans_2 9 rfl rfl)
theorem dX1_leans_55 : decode cX1_leans 55 = .ok (.getfield 71, 3) := dk_180 0 71 (dk_at dksX1_leans_2 10 rfl rfl)
theorem dX1_leans_58 : decode cX1_leans 58 = .ok (.iload_n 1, 1) := dk_27 (dk_at dksX1_leans_2 13 rfl rfl)
theorem dX1_leans_59 : decode cX1_leans 59 = .ok (.invokevirtual 144, 3) := dk_182 0 144 (dk_at dksX1_leans_2 14 rfl rfl)
theorem dX1_leans_62 : decode cX1_leans 62 = .ok (.checkcast 81, 3) := dk_192 0 81 (dk_at dksX1_leans_2 17 rfl rfl)
theorem dX1_leans_65 : decode cX1_leans 65 = .ok (.astore_n 3, 1) := dk_78 (dk_at dksX1_leans_2 20 rfl rfl)
theorem dX1_leans_66 : decode cX1_leans 66 = .ok (.aload_n 0, 1) := dk_42 (dk_at dksX1_leans_2 21 rfl rfl)
theorem dX1_leans_67 : decode cX1_leans 67 = .ok (.getfield 71, 3) := dk_180 0 71 (dk_at dksX1_leans_3 0 rfl rfl)
theorem dX1_leans_70 : decode cX1_leans 70 = .ok (.iload_n 2, 1) := dk_28 (dk_at dksX1_leans_3 3 rfl rfl)
theorem dX1_leans_71 : decode cX1_leans 71 = .ok (.invokevirtual 144, 3) := dk_182 0 144 (dk_at dksX1_leans_3 4 rfl rfl)
theorem dX1_leans_74 : decode cX1_leans 74 = .ok (.checkcast 81, 3) := dk_192 0 81 (dk_at dksX1_leans_3 7 rfl rfl)
theorem dX1_leans_77 : decode cX1_leans 77 = .ok (.astore 4, 2) := dk_58 4 (dk_at dksX1_leans_3 10 rfl rfl)
theorem dX1_leans_79 : decode cX1_leans 79 = .ok (.aload_n 3, 1) := dk_45 (dk_at dksX1_leans_3 12 rfl rfl)
theorem dX1_leans_80 : decode cX1_leans 80 = .ok (.aload 4, 2) := dk_25 4 (dk_at dksX1_leans_3 13 rfl rfl)
theorem dX1_leans_82 : decode cX1_leans 82 = .ok (.invokevirtual 314, 3) := dk_182 1 58 (dk_at dksX1_leans_3 15 rfl rfl)
theorem dX1_leans_85 : decode cX1_leans 85 = .ok (.ifCond .ne 6, 3) := dk_154 0 6 (dk_at dksX1_leans_3 18 rfl rfl)
theorem dX1_leans_88 : decode cX1_leans 88 = .ok (.goto 38, 3) := dk_167 0 38 (dk_at dksX1_leans_3 21 rfl rfl)
theorem dX1_leans_91 : decode cX1_leans 91 = .ok (.aload_n 0, 1) := dk_42 (dk_at dksX1_leans_4 0 rfl rfl)
theorem dX1_leans_92 : decode cX1_leans 92 = .ok (.getfield 78, 3) := dk_180 0 78 (dk_at dksX1_leans_4 1 rfl rfl)
theorem dX1_leans_95 : decode cX1_leans 95 = .ok (.aload_n 3, 1) := dk_45 (dk_at dksX1_leans_4 4 rfl rfl)
theorem dX1_leans_96 : decode cX1_leans 96 = .ok (.getfield 148, 3) := dk_180 0 148 (dk_at dksX1_leans_4 5 rfl rfl)
theorem dX1_leans_99 : decode cX1_leans 99 = .ok (.dup2, 1) := dk_92 (dk_at dksX1_leans_4 8 rfl rfl)
theorem dX1_leans_100 : decode cX1_leans 100 = .ok (.iaload, 1) := dk_46 (dk_at dksX1_leans_4 9 rfl rfl)
theorem dX1_leans_101 : decode cX1_leans 101 = .ok (.iconst 1, 1) := dk_4 (dk_at dksX1_leans_4 10 rfl rfl)
theorem dX1_leans_102 : decode cX1_leans 102 = .ok (.iadd, 1) := dk_96 (dk_at dksX1_leans_4 11 rfl rfl)
theorem dX1_leans_103 : decode cX1_leans 103 = .ok (.iastore, 1) := dk_79 (dk_at dksX1_leans_4 12 rfl rfl)
theorem dX1_leans_104 : decode cX1_leans 104 = .ok (.aload_n 0, 1) := dk_42 (dk_at dksX1_leans_4 13 rfl rfl)
theorem dX1_leans_105 : decode cX1_leans 105 = .ok (.getfield 74, 3) := dk_180 0 74 (dk_at dksX1_leans_4 14 rfl rfl)
theorem dX1_leans_108 : decode cX1_leans 108 = .ok (.aload_n 3, 1) := dk_45 (dk_at dksX1_leans_4 17 rfl rfl)
theorem dX1_leans_109 : decode cX1_leans 109 = .ok (.getfield 148, 3) := dk_180 0 148 (dk_at dksX1_leans_4 18 rfl rfl)
theorem dX1_leans_112 : decode cX1_leans 112 = .ok (.dup2, 1) := dk_92 (dk_at dksX1_leans_4 21 rfl rfl)
theorem dX1_leans_113 : decode cX1_leans 113 = .ok (.iaload, 1) := dk_46 (dk_at dksX1_leans_4 22 rfl rfl)
theorem dX1_leans_114 : decode cX1_leans 114 = .ok (.aload_n 3, 1) := dk_45 (dk_at dksX1_leans_4 23 rfl rfl)
theorem dX1_leans_115 : decode cX1_leans 115 = .ok (.getfield 263, 3) := dk_180 1 7 (dk_at dksX1_leans_5 0 rfl rfl)
theorem dX1_leans_118 : decode cX1_leans 118 = .ok (.aload 4, 2) := dk_25 4 (dk_at dksX1_leans_5 3 rfl rfl)
theorem dX1_leans_120 : decode cX1_leans 120 = .ok (.getfield 263, 3) := dk_180 1 7 (dk_at dksX1_leans_5 5 rfl rfl)
theorem dX1_leans_123 : decode cX1_leans 123 = .ok (.isub, 1) := dk_100 (dk_at dksX1_leans_5 8 rfl rfl)
theorem dX1_leans_124 : decode cX1_leans 124 = .ok (.iadd, 1) := dk_96 (dk_at dksX1_leans_5 9 rfl rfl)
theorem dX1_leans_125 : decode cX1_leans 125 = .ok (.iastore, 1) := dk_79 (dk_at dksX1_leans_5 10 rfl rfl)
theorem dX1_leans_126 : decode cX1_leans 126 = .ok (.iinc 2 1, 3) := dk_132 2 1 (dk_at dksX1_leans_5 11 rfl rfl)
theorem dX1_leans_129 : decode cX1_leans 129 = .ok (.goto (-86), 3) := dk_167 255 170 (dk_at dksX1_leans_5 14 rfl rfl)
theorem dX1_leans_132 : decode cX1_leans 132 = .ok (.iinc 1 1, 3) := dk_132 1 1 (dk_at dksX1_leans_5 17 rfl rfl)
theorem dX1_leans_135 : decode cX1_leans 135 = .ok (.goto (-105), 3) := dk_167 255 151 (dk_at dksX1_leans_5 20 rfl rfl)
theorem dX1_leans_138 : decode cX1_leans 138 = .ok (.iconst 0, 1) := dk_3 (dk_at dksX1_leans_5 23 rfl rfl)
theorem dX1_leans_139 : decode cX1_leans 139 = .ok (.istore_n 1, 1) := dk_60 (dk_at dksX1_leans_6 0 rfl rfl)
theorem dX1_leans_140 : decode cX1_leans 140 = .ok (.iload_n 1, 1) := dk_27 (dk_at dksX1_leans_6 1 rfl rfl)
theorem dX1_leans_141 : decode cX1_leans 141 = .ok (.bipush 8, 2) := dk_16 8 (dk_at dksX1_leans_6 2 rfl rfl)
theorem dX1_leans_143 : decode cX1_leans 143 = .ok (.if_icmp .ge 42, 3) := dk_162 0 42 (dk_at dksX1_leans_6 4 rfl rfl)
theorem dX1_leans_146 : decode cX1_leans 146 = .ok (.aload_n 0, 1) := dk_42 (dk_at dksX1_leans_6 7 rfl rfl)
theorem dX1_leans_147 : decode cX1_leans 147 = .ok (.getfield 74, 3) := dk_180 0 74 (dk_at dksX1_leans_6 8 rfl rfl)
theorem dX1_leans_150 : decode cX1_leans 150 = .ok (.iload_n 1, 1) := dk_27 (dk_at dksX1_leans_6 11 rfl rfl)
theorem dX1_leans_151 : decode cX1_leans 151 = .ok (.aload_n 0, 1) := dk_42 (dk_at dksX1_leans_6 12 rfl rfl)
theorem dX1_leans_152 : decode cX1_leans 152 = .ok (.getfield 78, 3) := dk_180 0 78 (dk_at dksX1_leans_6 13 rfl rfl)
theorem dX1_leans_155 : decode cX1_leans 155 = .ok (.iload_n 1, 1) := dk_27 (dk_at dksX1_leans_6 16 rfl rfl)
theorem dX1_leans_156 : decode cX1_leans 156 = .ok (.iaload, 1) := dk_46 (dk_at dksX1_leans_6 17 rfl rfl)
theorem dX1_leans_157 : decode cX1_leans 157 = .ok (.iconst 2, 1) := dk_5 (dk_at dksX1_leans_6 18 rfl rfl)
theorem dX1_leans_158 : decode cX1_leans 158 = .ok (.if_icmp .ge 7, 3) := dk_162 0 7 (dk_at dksX1_leans_6 19 rfl rfl)
theorem dX1_leans_161 : decode cX1_leans 161 = .ok (.iconst 0, 1) := dk_3 (dk_at dksX1_leans_6 22 rfl rfl)
theorem dX1_leans_162 : decode cX1_leans 162 = .ok (.goto 16, 3) := dk_167 0 16 (dk_at dksX1_leans_7 0 rfl rfl)
theorem dX1_leans_165 : decode cX1_leans 165 = .ok (.aload_n 0, 1) := dk_42 (dk_at dksX1_leans_7 3 rfl rfl)
theorem dX1_leans_166 : decode cX1_leans 166 = .ok (.getfield 74, 3) := dk_180 0 74 (dk_at dksX1_leans_7 4 rfl rfl)
theorem dX1_leans_169 : decode cX1_leans 169 = .ok (.iload_n 1, 1) := dk_27 (dk_at dksX1_leans_7 7 rfl rfl)
theorem dX1_leans_170 : decode cX1_leans 170 = .ok (.iaload, 1) := dk_46 (dk_at dksX1_leans_7 8 rfl rfl)
theorem dX1_leans_171 : decode cX1_leans 171 = .ok (.aload_n 0, 1) := dk_42 (dk_at dksX1_leans_7 9 rfl rfl)
theorem dX1_leans_172 : decode cX1_leans 172 = .ok (.getfield 78, 3) := dk_180 0 78 (dk_at dksX1_leans_7 10 rfl rfl)
theorem dX1_leans_175 : decode cX1_leans 175 = .ok (.iload_n 1, 1) := dk_27 (dk_at dksX1_leans_7 13 rfl rfl)
theorem dX1_leans_176 : decode cX1_leans 176 = .ok (.iaload, 1) := dk_46 (dk_at dksX1_leans_7 14 rfl rfl)
theorem dX1_leans_177 : decode cX1_leans 177 = .ok (.idiv, 1) := dk_108 (dk_at dksX1_leans_7 15 rfl rfl)
theorem dX1_leans_178 : decode cX1_leans 178 = .ok (.iastore, 1) := dk_79 (dk_at dksX1_leans_7 16 rfl rfl)
theorem dX1_leans_179 : decode cX1_leans 179 = .ok (.iinc 1 1, 3) := dk_132 1 1 (dk_at dksX1_leans_7 17 rfl rfl)
theorem dX1_leans_182 : decode cX1_leans 182 = .ok (.goto (-42), 3) := dk_167 255 214 (dk_at dksX1_leans_7 20 rfl rfl)
theorem dX1_leans_185 : decode cX1_leans 185 = .ok (.return_, 1) := dk_177 (dk_at dksX1_leans_7 23 rfl rfl)
abbrev cX1_set : ByteArray := prog_1_method_29_code
def yX1_set : MethodName := ⟨RX1, "set", "(III)I"⟩
def dkwX1_set_3 : List UInt8 := [42, 180, 0, 83, 21, 5, 50, 180, 1, 55, 172, 132, 4, 1, 132, 5, 1, 167, 255, 209, 2, 172]
abbrev dktX1_set_3 : List UInt8 := dkwX1_set_3 ++ []
def dkwX1_set_2 : List UInt8 := [162, 0, 44, 42, 180, 1, 34, 21, 5, 122, 4, 126, 154, 0, 6, 167, 0, 23, 21, 4, 29, 160, 0, 14]
abbrev dktX1_set_2 : List UInt8 := dkwX1_set_2 ++ dktX1_set_3
def dkwX1_set_1 : List UInt8 := [182, 1, 37, 42, 27, 28, 3, 182, 0, 208, 87, 3, 54, 4, 3, 54, 5, 21, 5, 42, 180, 1, 18]
abbrev dktX1_set_1 : List UInt8 := dkwX1_set_1 ++ dktX1_set_2
def dkwX1_set_0 : List UInt8 := [42, 27, 182, 0, 141, 153, 0, 14, 28, 184, 0, 178, 153, 0, 7, 29, 156, 0, 5, 2, 172, 42]
abbrev dktX1_set_0 : List UInt8 := dkwX1_set_0 ++ dktX1_set_1
theorem dksX1_set_0 : cX1_set.data.toList.drop 0 = dktX1_set_0 := by decide +kernel
theorem dksX1_set_1 : cX1_set.data.toList.drop 22 = dktX1_set_1 := dk_seg dksX1_set_0 22 rfl rfl
theorem dksX1_set_2 : cX1_set.data.toList.drop 45 = dktX1_set_2 := dk_seg dksX1_set_1 23 rfl rfl
theorem dksX1_set_3 : cX1_set.data.toList.drop 69 = dktX1_set_3 := dk_seg dksX1_set_2 24 rfl rfl
theorem dX1_set_0 : decode cX1_set 0 = .ok (.aload_n 0, 1) := dk_42 (dk_at dksX1_set_0 0 rfl rfl)
theorem dX1_set_1 : decode cX1_set 1 = .ok (.iload_n 1, 1) := dk_27 (dk_at dksX1_set_0 1 rfl rfl)
theorem dX1_set_2 : decode cX1_set 2 = .ok (.invokevirtual 141, 3) := dk_182 0 141 (dk_at dksX1_set_0 2 rfl rfl)
theorem dX1_set_5 : decode cX1_set 5 = .ok (.ifCond .eq 14, 3) := dk_153 0 14 (dk_at dksX1_set_0 5 rfl rfl)
theorem dX1_set_8 : decode cX1_set 8 = .ok (.iload_n 2, 1) := dk_28 (dk_at dksX1_set_0 8 rfl rfl)
theorem dX1_set_9 : decode cX1_set 9 = .ok (.invokestatic 178, 3) := dk_184 0 178 (dk_at dksX1_set_0 9 rfl rfl)
theorem dX1_set_12 : decode cX1_set 12 = .ok (.ifCond .eq 7, 3) := dk_153 0 7 (dk_at dksX1_set_0 12 rfl rfl)
theorem dX1_set_15 : decode cX1_set 15 = .ok (.iload_n 3, 1) := dk_29 (dk_at dksX1_set_0 15 rfl rfl)
theorem dX1_set_16 : decode cX1_set 16 = .ok (.ifCond .ge 5, 3) := dk_156 0 5 (dk_at dksX1_set_0 16 rfl rfl)
theorem dX1_set_19 : decode cX1_set 19 = .ok (.iconst (-1), 1) := dk_2 (dk_at dksX1_set_0 19 rfl rfl)
theorem dX1_set_20 : decode cX1_set 20 = .ok (.ireturn, 1) := dk_172 (dk_at dksX1_set_0 20 rfl rfl)
theorem dX1_set_21 : decode cX1_set 21 = .ok (.aload_n 0, 1) := dk_42 (dk_at dksX1_set_0 21 rfl rfl)
theorem dX1_set_22 : decode cX1_set 22 = .ok (.invokevirtual 293, 3) := dk_182 1 37 (dk_at dksX1_set_1 0 rfl rfl)
theorem dX1_set_25 : decode cX1_set 25 = .ok (.aload_n 0, 1) := dk_42 (dk_at dksX1_set_1 3 rfl rfl)
theorem dX1_set_26 : decode cX1_set 26 = .ok (.iload_n 1, 1) := dk_27 (dk_at dksX1_set_1 4 rfl rfl)
theorem dX1_set_27 : decode cX1_set 27 = .ok (.iload_n 2, 1) := dk_28 (dk_at dksX1_set_1 5 rfl rfl)
theorem dX1_set_28 : decode cX1_set 28 = .ok (.iconst 0, 1) := dk_3 (dk_at dksX1_set_1 6 rfl rfl)
theorem dX1_set_29 : decode cX1_set 29 = .ok (.invokevirtual 208, 3) := dk_182 0 208 (dk_at dksX1_set_1 7 rfl rfl)
theorem dX1_set_32 : decode cX1_set 32 = .ok (.pop, 1) := dk_87 (dk_at dksX1_set_1 10 rfl rfl)
theorem dX1_set_33 : decode cX1_set 33 = .ok (.iconst 0, 1) := dk_3 (dk_at dksX1_set_1 11 rfl rfl)
theorem dX1_set_34 : decode cX1_set 34 = .ok (.istore 4, 2) := dk_54 4 (dk_at dksX1_set_1 12 rfl rfl)
theorem dX1_set_36 : decode cX1_set 36 = .ok (.iconst 0, 1) := dk_3 (dk_at dksX1_set_1 14 rfl rfl)
theorem dX1_set_37 : decode cX1_set 37 = .ok (.istore 5, 2) := dk_54 5 (dk_at dksX1_set_1 15 rfl rfl)
theorem dX1_set_39 : decode cX1_set 39 = .ok (.iload 5, 2) := dk_21 5 (dk_at dksX1_set_1 17 rfl rfl)
theorem dX1_set_41 : decode cX1_set 41 = .ok (.aload_n 0, 1) := dk_42 (dk_at dksX1_set_1 19 rfl rfl)
theorem dX1_set_42 : decode cX1_set 42 = .ok (.getfield 274, 3) := dk_180 1 18 (dk_at dksX1_set_1 20 rfl rfl)
theorem dX1_set_45 : decode cX1_set 45 = .ok (.if_icmp .ge 44, 3) := dk_162 0 44 (dk_at dksX1_set_2 0 rfl rfl)
theorem dX1_set_48 : decode cX1_set 48 = .ok (.aload_n 0, 1) := dk_42 (dk_at dksX1_set_2 3 rfl rfl)
theorem dX1_set_49 : decode cX1_set 49 = .ok (.getfield 290, 3) := dk_180 1 34 (dk_at dksX1_set_2 4 rfl rfl)
theorem dX1_set_52 : decode cX1_set 52 = .ok (.iload 5, 2) := dk_21 5 (dk_at dksX1_set_2 7 rfl rfl)
theorem dX1_set_54 : decode cX1_set 54 = .ok (.ishr, 1) := dk_122 (dk_at dksX1_set_2 9 rfl rfl)
theorem dX1_set_55 : decode cX1_set 55 = .ok (.iconst 1, 1) := dk_4 (dk_at dksX1_set_2 10 rfl rfl)
theorem dX1_set_56 : decode cX1_set 56 = .ok (.iand, 1) := dk_126 (dk_at dksX1_set_2 11 rfl rfl)
theorem dX1_set_57 : decode cX1_set 57 = .ok (.ifCond .ne 6, 3) := dk_154 0 6 (dk_at dksX1_set_2 12 rfl rfl)
theorem dX1_set_60 : decode cX1_set 60 = .ok (.goto 23, 3) := dk_167 0 23 (dk_at dksX1_set_2 15 rfl rfl)
theorem dX1_set_63 : decode cX1_set 63 = .ok (.iload 4, 2) := dk_21 4 (dk_at dksX1_set_2 18 rfl rfl)
theorem dX1_set_65 : decode cX1_set 65 = .ok (.iload_n 3, 1) := dk_29 (dk_at dksX1_set_2 20 rfl rfl)
theorem dX1_set_66 : decode cX1_set 66 = .ok (.if_icmp .ne 14, 3) := dk_160 0 14 (dk_at dksX1_set_2 21 rfl rfl)
theorem dX1_set_69 : decode cX1_set 69 = .ok (.aload_n 0, 1) := dk_42 (dk_at dksX1_set_3 0 rfl rfl)
theorem dX1_set_70 : decode cX1_set 70 = .ok (.getfield 83, 3) := dk_180 0 83 (dk_at dksX1_set_3 1 rfl rfl)
theorem dX1_set_73 : decode cX1_set 73 = .ok (.iload 5, 2) := dk_21 5 (dk_at dksX1_set_3 4 rfl rfl)
theorem dX1_set_75 : decode cX1_set 75 = .ok (.aaload, 1) := dk_50 (dk_at dksX1_set_3 6 rfl rfl)
theorem dX1_set_76 : decode cX1_set 76 = .ok (.getfield 311, 3) := dk_180 1 55 (dk_at dksX1_set_3 7 rfl rfl)
theorem dX1_set_79 : decode cX1_set 79 = .ok (.ireturn, 1) := dk_172 (dk_at dksX1_set_3 10 rfl rfl)
theorem dX1_set_80 : decode cX1_set 80 = .ok (.iinc 4 1, 3) := dk_132 4 1 (dk_at dksX1_set_3 11 rfl rfl)
theorem dX1_set_83 : decode cX1_set 83 = .ok (.iinc 5 1, 3) := dk_132 5 1 (dk_at dksX1_set_3 14 rfl rfl)
theorem dX1_set_86 : decode cX1_set 86 = .ok (.goto (-47), 3) := dk_167 255 209 (dk_at dksX1_set_3 17 rfl rfl)
theorem dX1_set_89 : decode cX1_set 89 = .ok (.iconst (-1), 1) := dk_2 (dk_at dksX1_set_3 20 rfl rfl)
theorem dX1_set_90 : decode cX1_set 90 = .ok (.ireturn, 1) := dk_172 (dk_at dksX1_set_3 21 rfl rfl)
abbrev cX1_meetings : ByteArray := prog_1_method_32_code
def yX1_meetings : MethodName := ⟨RX1, "meetings", "(II)I"⟩
def dkwX1_meetings_6 : List UInt8 := [29, 172]
abbrev dktX1_meetings_6 : List UInt8 := dkwX1_meetings_6 ++ []
def dkwX1_meetings_5 : List UInt8 := [192, 0, 81, 182, 1, 58, 153, 0, 6, 132, 3, 1, 132, 5, 1, 167, 255, 170, 132, 4, 1, 167, 255, 149]
abbrev dktX1_meetings_5 : List UInt8 := dkwX1_meetings_5 ++ dktX1_meetings_6
def dkwX1_meetings_4 : List UInt8 := [160, 0, 36, 42, 180, 0, 71, 21, 4, 182, 0, 144, 192, 0, 81, 42, 180, 0, 71, 21, 5, 182, 0, 144]
abbrev dktX1_meetings_4 : List UInt8 := dkwX1_meetings_4 ++ dktX1_meetings_5
def dkwX1_meetings_3 : List UInt8 := [180, 0, 148, 27, 160, 0, 55, 42, 180, 0, 71, 21, 5, 182, 0, 144, 192, 0, 81, 180, 0, 148, 28]
abbrev dktX1_meetings_3 : List UInt8 := dkwX1_meetings_3 ++ dktX1_meetings_4
def dkwX1_meetings_2 : List UInt8 := [21, 5, 42, 180, 0, 71, 182, 0, 121, 162, 0, 80, 42, 180, 0, 71, 21, 4, 182, 0, 144, 192, 0, 81]
abbrev dktX1_meetings_2 : List UInt8 := dkwX1_meetings_2 ++ dktX1_meetings_3
def dkwX1_meetings_1 : List UInt8 := [182, 1, 37, 3, 62, 3, 54, 4, 21, 4, 42, 180, 0, 71, 182, 0, 121, 162, 0, 101, 3, 54, 5]
abbrev dktX1_meetings_1 : List UInt8 := dkwX1_meetings_1 ++ dktX1_meetings_2
def dkwX1_meetings_0 : List UInt8 := [42, 27, 182, 0, 141, 153, 0, 16, 42, 28, 182, 0, 141, 153, 0, 8, 27, 28, 160, 0, 5, 2, 172, 42]
abbrev dktX1_meetings_0 : List UInt8 := dkwX1_meetings_0 ++ dktX1_meetings_1
theorem dksX1_meetings_0 : cX1_meetings.data.toList.drop 0 = dktX1_meetings_0 := by decide +kernel
theorem dksX1_meetings_1 : cX1_meetings.data.toList.drop 24 = dktX1_meetings_1 := dk_seg dksX1_meetings_0 24 rfl rfl
theorem dksX1_meetings_2 : cX1_meetings.data.toList.drop 47 = dktX1_meetings_2 := dk_seg dksX1_meetings_1 23 rfl rfl
theorem dksX1_meetings_3 : cX1_meetings.data.toList.drop 71 = dktX1_meetings_3 := dk_seg dksX1_meetings_2 24 rfl rfl
theorem dksX1_meetings_4 : cX1_meetings.data.toList.drop 94 = dktX1_meetings_4 := dk_seg dksX1_meetings_3 23 rfl rfl
theorem dksX1_meetings_5 : cX1_meetings.data.toList.drop 118 = dktX1_meetings_5 := dk_seg dksX1_meetings_4 24 rfl rfl
theorem dksX1_meetings_6 : cX1_meetings.data.toList.drop 142 = dktX1_meetings_6 := dk_seg dksX1_meetings_5 24 rfl rfl
theorem dX1_meetings_0 : decode cX1_meetings 0 = .ok (.aload_n 0, 1) := dk_42 (dk_at dksX1_meetings_0 0 rfl rfl)
theorem dX1_meetings_1 : decode cX1_meetings 1 = .ok (.iload_n 1, 1) := dk_27 (dk_at dksX1_meetings_0 1 rfl rfl)
theorem dX1_meetings_2 : decode cX1_meetings 2 = .ok (.invokevirtual 141, 3) := dk_182 0 141 (dk_at dksX1_meetings_0 2 rfl rfl)
theorem dX1_meetings_5 : decode cX1_meetings 5 = .ok (.ifCond .eq 16, 3) := dk_153 0 16 (dk_at dksX1_meetings_0 5 rfl rfl)
theorem dX1_meetings_8 : decode cX1_meetings 8 = .ok (.aload_n 0, 1) := dk_42 (dk_at dksX1_meetings_0 8 rfl rfl)
theorem dX1_meetings_9 : decode cX1_meetings 9 = .ok (.iload_n 2, 1) := dk_28 (dk_at dksX1_meetings_0 9 rfl rfl)
theorem dX1_meetings_10 : decode cX1_meetings 10 = .ok (.invokevirtual 141, 3) := dk_182 0 141 (dk_at dksX1_meetings_0 10 rfl rfl)
theorem dX1_meetings_13 : decode cX1_meetings 13 = .ok (.ifCond .eq 8, 3) := dk_153 0 8 (dk_at dksX1_meetings_0 13 rfl rfl)
theorem dX1_meetings_16 : decode cX1_meetings 16 = .ok (.iload_n 1, 1) := dk_27 (dk_at dksX1_meetings_0 16 rfl rfl)
theorem dX1_meetings_17 : decode cX1_meetings 17 = .ok (.iload_n 2, 1) := dk_28 (dk_at dksX1_meetings_0 17 rfl rfl)
theorem dX1_meetings_18 : decode cX1_meetings 18 = .ok (.if_icmp .ne 5, 3) := dk_160 0 5 (dk_at dksX1_meetings_0 18 rfl rfl)
theorem dX1_meetings_21 : decode cX1_meetings 21 = .ok (.iconst (-1), 1) := dk_2 (dk_at dksX1_meetings_0 21 rfl rfl)
theorem dX1_meetings_22 : decode cX1_meetings 22 = .ok (.ireturn, 1) := dk_172 (dk_at dksX1_meetings_0 22 rfl rfl)
theorem dX1_meetings_23 : decode cX1_meetings 23 = .ok (.aload_n 0, 1) := dk_42 (dk_at dksX1_meetings_0 23 rfl rfl)
theorem dX1_meetings_24 : decode cX1_meetings 24 = .ok (.invokevirtual 293, 3) := dk_182 1 37 (dk_at dksX1_meetings_1 0 rfl rfl)
theorem dX1_meetings_27 : decode cX1_meetings 27 = .ok (.iconst 0, 1) := dk_3 (dk_at dksX1_meetings_1 3 rfl rfl)
theorem dX1_meetings_28 : decode cX1_meetings 28 = .ok (.istore_n 3, 1) := dk_62 (dk_at dksX1_meetings_1 4 rfl rfl)
theorem dX1_meetings_29 : decode cX1_meetings 29 = .ok (.iconst 0, 1) := dk_3 (dk_at dksX1_meetings_1 5 rfl rfl)
theorem dX1_meetings_30 : decode cX1_meetings 30 = .ok (.istore 4, 2) := dk_54 4 (dk_at dksX1_meetings_1 6 rfl rfl)
theorem dX1_meetings_32 : decode cX1_meetings 32 = .ok (.iload 4, 2) := dk_21 4 (dk_at dksX1_meetings_1 8 rfl rfl)
theorem dX1_meetings_34 : decode cX1_meetings 34 = .ok (.aload_n 0, 1) := dk_42 (dk_at dksX1_meetings_1 10 rfl rfl)
theorem dX1_meetings_35 : decode cX1_meetings 35 = .ok (.getfield 71, 3) := dk_180 0 71 (dk_at dksX1_meetings_1 11 rfl rfl)
theorem dX1_meetings_38 : decode cX1_meetings 38 = .ok (.invokevirtual 121, 3) := dk_182 0 121 (dk_at dksX1_meetings_1 14 rfl rfl)
theorem dX1_meetings_41 : decode cX1_meetings 41 = .ok (.if_icmp .ge 101, 3) := dk_162 0 101 (dk_at dksX1_meetings_1 17 rfl rfl)
theorem dX1_meetings_44 : decode cX1_meetings 44 = .ok (.iconst 0, 1) := dk_3 (dk_at dksX1_meetings_1 20 rfl rfl)
theorem dX1_meetings_45 : decode cX1_meetings 45 = .ok (.istore 5, 2) := dk_54 5 (dk_at dksX1_meetings_1 21 rfl rfl)
theorem dX1_meetings_47 : decode cX1_meetings 47 = .ok (.iload 5, 2) := dk_21 5 (dk_at dksX1_meetings_2 0 rfl rfl)
theorem dX1_meetings_49 : decode cX1_meetings 49 = .ok (.aload_n 0, 1) := dk_42 (dk_at dksX1_meetings_2 2 rfl rfl)
theorem dX1_meetings_50 : decode cX1_meetings 50 = .ok (.getfield 71, 3) := dk_180 0 71 (dk_at dksX1_meetings_2 3 rfl rfl)
theorem dX1_meetings_53 : decode cX1_meetings 53 = .ok (.invokevirtual 121, 3) := dk_182 0 121 (dk_at dksX1_meetings_2 6 rfl rfl)
theorem dX1_meetings_56 : decode cX1_meetings 56 = .ok (.if_icmp .ge 80, 3) := dk_162 0 80 (dk_at dksX1_meetings_2 9 rfl rfl)
theorem dX1_meetings_59 : decode cX1_meetings 59 = .ok (.aload_n 0, 1) := dk_42 (dk_at dksX1_meetings_2 12 rfl rfl)
theorem dX1_meetings_60 : decode cX1_meetings 60 = .ok (.getfield 71, 3) := dk_180 0 71 (dk_at dksX1_meetings_2 13 rfl rfl)
theorem dX1_meetings_63 : decode cX1_meetings 63 = .ok (.iload 4, 2) := dk_21 4 (dk_at dksX1_meetings_2 16 rfl rfl)
theorem dX1_meetings_65 : decode cX1_meetings 65 = .ok (.invokevirtual 144, 3) := dk_182 0 144 (dk_at dksX1_meetings_2 18 rfl rfl)
theorem dX1_meetings_68 : decode cX1_meetings 68 = .ok (.checkcast 81, 3) := dk_192 0 81 (dk_at dksX1_meetings_2 21 rfl rfl)
theorem dX1_meetings_71 : decode cX1_meetings 71 = .ok (.getfield 148, 3) := dk_180 0 148 (dk_at dksX1_meetings_3 0 rfl rfl)
theorem dX1_meetings_74 : decode cX1_meetings 74 = .ok (.iload_n 1, 1) := dk_27 (dk_at dksX1_meetings_3 3 rfl rfl)
theorem dX1_meetings_75 : decode cX1_meetings 75 = .ok (.if_icmp .ne 55, 3) := dk_160 0 55 (dk_at dksX1_meetings_3 4 rfl rfl)
theorem dX1_meetings_78 : decode cX1_meetings 78 = .ok (.aload_n 0, 1) := dk_42 (dk_at dksX1_meetings_3 7 rfl rfl)
theorem dX1_meetings_79 : decode cX1_meetings 79 = .ok (.getfield 71, 3) := dk_180 0 71 (dk_at dksX1_meetings_3 8 rfl rfl)
theorem dX1_meetings_82 : decode cX1_meetings 82 = .ok (.iload 5, 2) := dk_21 5 (dk_at dksX1_meetings_3 11 rfl rfl)
theorem dX1_meetings_84 : decode cX1_meetings 84 = .ok (.invokevirtual 144, 3) := dk_182 0 144 (dk_at dksX1_meetings_3 13 rfl rfl)
theorem dX1_meetings_87 : decode cX1_meetings 87 = .ok (.checkcast 81, 3) := dk_192 0 81 (dk_at dksX1_meetings_3 16 rfl rfl)
theorem dX1_meetings_90 : decode cX1_meetings 90 = .ok (.getfield 148, 3) := dk_180 0 148 (dk_at dksX1_meetings_3 19 rfl rfl)
theorem dX1_meetings_93 : decode cX1_meetings 93 = .ok (.iload_n 2, 1) := dk_28 (dk_at dksX1_meetings_3 22 rfl rfl)
theorem dX1_meetings_94 : decode cX1_meetings 94 = .ok (.if_icmp .ne 36, 3) := dk_160 0 36 (dk_at dksX1_meetings_4 0 rfl rfl)
theorem dX1_meetings_97 : decode cX1_meetings 97 = .ok (.aload_n 0, 1) := dk_42 (dk_at dksX1_meetings_4 3 rfl rfl)
theorem dX1_meetings_98 : decode cX1_meetings 98 = .ok (.getfield 71, 3) := dk_180 0 71 (dk_at dksX1_meetings_4 4 rfl rfl)
theorem dX1_meetings_101 : decode cX1_meetings 101 = .ok (.iload 4, 2) := dk_21 4 (dk_at dksX1_meetings_4 7 rfl rfl)
theorem dX1_meetings_103 : decode cX1_meetings 103 = .ok (.invokevirtual 144, 3) := dk_182 0 144 (dk_at dksX1_meetings_4 9 rfl rfl)
theorem dX1_meetings_106 : decode cX1_meetings 106 = .ok (.checkcast 81, 3) := dk_192 0 81 (dk_at dksX1_meetings_4 12 rfl rfl)
theorem dX1_meetings_109 : decode cX1_meetings 109 = .ok (.aload_n 0, 1) := dk_42 (dk_at dksX1_meetings_4 15 rfl rfl)
theorem dX1_meetings_110 : decode cX1_meetings 110 = .ok (.getfield 71, 3) := dk_180 0 71 (dk_at dksX1_meetings_4 16 rfl rfl)
theorem dX1_meetings_113 : decode cX1_meetings 113 = .ok (.iload 5, 2) := dk_21 5 (dk_at dksX1_meetings_4 19 rfl rfl)
theorem dX1_meetings_115 : decode cX1_meetings 115 = .ok (.invokevirtual 144, 3) := dk_182 0 144 (dk_at dksX1_meetings_4 21 rfl rfl)
theorem dX1_meetings_118 : decode cX1_meetings 118 = .ok (.checkcast 81, 3) := dk_192 0 81 (dk_at dksX1_meetings_5 0 rfl rfl)
theorem dX1_meetings_121 : decode cX1_meetings 121 = .ok (.invokevirtual 314, 3) := dk_182 1 58 (dk_at dksX1_meetings_5 3 rfl rfl)
theorem dX1_meetings_124 : decode cX1_meetings 124 = .ok (.ifCond .eq 6, 3) := dk_153 0 6 (dk_at dksX1_meetings_5 6 rfl rfl)
theorem dX1_meetings_127 : decode cX1_meetings 127 = .ok (.iinc 3 1, 3) := dk_132 3 1 (dk_at dksX1_meetings_5 9 rfl rfl)
theorem dX1_meetings_130 : decode cX1_meetings 130 = .ok (.iinc 5 1, 3) := dk_132 5 1 (dk_at dksX1_meetings_5 12 rfl rfl)
theorem dX1_meetings_133 : decode cX1_meetings 133 = .ok (.goto (-86), 3) := dk_167 255 170 (dk_at dksX1_meetings_5 15 rfl rfl)
theorem dX1_meetings_136 : decode cX1_meetings 136 = .ok (.iinc 4 1, 3) := dk_132 4 1 (dk_at dksX1_meetings_5 18 rfl rfl)
theorem dX1_meetings_139 : decode cX1_meetings 139 = .ok (.goto (-107), 3) := dk_167 255 149 (dk_at dksX1_meetings_5 21 rfl rfl)
theorem dX1_meetings_142 : decode cX1_meetings 142 = .ok (.iload_n 3, 1) := dk_29 (dk_at dksX1_meetings_6 0 rfl rfl)
theorem dX1_meetings_143 : decode cX1_meetings 143 = .ok (.ireturn, 1) := dk_172 (dk_at dksX1_meetings_6 1 rfl rfl)
abbrev cX1_doubt : ByteArray := prog_1_method_38_code
def yX1_doubt : MethodName := ⟨RX1, "doubt", "(III)I"⟩
def dkwX1_doubt_2 : List UInt8 := [42, 180, 1, 65, 108, 172]
abbrev dktX1_doubt_2 : List UInt8 := dkwX1_doubt_2 ++ []
def dkwX1_doubt_1 : List UInt8 := [28, 29, 182, 1, 73, 87, 42, 180, 1, 65, 154, 0, 7, 2, 167, 0, 15, 16, 100, 42, 180, 0, 19, 104]
abbrev dktX1_doubt_1 : List UInt8 := dkwX1_doubt_1 ++ dktX1_doubt_2
def dkwX1_doubt_0 : List UInt8 := [42, 27, 182, 0, 137, 153, 0, 11, 28, 29, 184, 1, 69, 154, 0, 5, 2, 172, 42, 182, 1, 37, 42, 27]
abbrev dktX1_doubt_0 : List UInt8 := dkwX1_doubt_0 ++ dktX1_doubt_1
theorem dksX1_doubt_0 : cX1_doubt.data.toList.drop 0 = dktX1_doubt_0 := by decide +kernel
theorem dksX1_doubt_1 : cX1_doubt.data.toList.drop 24 = dktX1_doubt_1 := dk_seg dksX1_doubt_0 24 rfl rfl
theorem dksX1_doubt_2 : cX1_doubt.data.toList.drop 48 = dktX1_doubt_2 := dk_seg dksX1_doubt_1 24 rfl rfl
theorem dX1_doubt_0 : decode cX1_doubt 0 = .ok (.aload_n 0, 1) := dk_42 (dk_at dksX1_doubt_0 0 rfl rfl)
theorem dX1_doubt_1 : decode cX1_doubt 1 = .ok (.iload_n 1, 1) := dk_27 (dk_at dksX1_doubt_0 1 rfl rfl)
theorem dX1_doubt_2 : decode cX1_doubt 2 = .ok (.invokevirtual 137, 3) := dk_182 0 137 (dk_at dksX1_doubt_0 2 rfl rfl)
theorem dX1_doubt_5 : decode cX1_doubt 5 = .ok (.ifCond .eq 11, 3) := dk_153 0 11 (dk_at dksX1_doubt_0 5 rfl rfl)
theorem dX1_doubt_8 : decode cX1_doubt 8 = .ok (.iload_n 2, 1) := dk_28 (dk_at dksX1_doubt_0 8 rfl rfl)
theorem dX1_doubt_9 : decode cX1_doubt 9 = .ok (.iload_n 3, 1) := dk_29 (dk_at dksX1_doubt_0 9 rfl rfl)
theorem dX1_doubt_10 : decode cX1_doubt 10 = .ok (.invokestatic 325, 3) := dk_184 1 69 (dk_at dksX1_doubt_0 10 rfl rfl)
theorem dX1_doubt_13 : decode cX1_doubt 13 = .ok (.ifCond .ne 5, 3) := dk_154 0 5 (dk_at dksX1_doubt_0 13 rfl rfl)
theorem dX1_doubt_16 : decode cX1_doubt 16 = .ok (.iconst (-1), 1) := dk_2 (dk_at dksX1_doubt_0 16 rfl rfl)
theorem dX1_doubt_17 : decode cX1_doubt 17 = .ok (.ireturn, 1) := dk_172 (dk_at dksX1_doubt_0 17 rfl rfl)
theorem dX1_doubt_18 : decode cX1_doubt 18 = .ok (.aload_n 0, 1) := dk_42 (dk_at dksX1_doubt_0 18 rfl rfl)
theorem dX1_doubt_19 : decode cX1_doubt 19 = .ok (.invokevirtual 293, 3) := dk_182 1 37 (dk_at dksX1_doubt_0 19 rfl rfl)
theorem dX1_doubt_22 : decode cX1_doubt 22 = .ok (.aload_n 0, 1) := dk_42 (dk_at dksX1_doubt_0 22 rfl rfl)
theorem dX1_doubt_23 : decode cX1_doubt 23 = .ok (.iload_n 1, 1) := dk_27 (dk_at dksX1_doubt_0 23 rfl rfl)
theorem dX1_doubt_24 : decode cX1_doubt 24 = .ok (.iload_n 2, 1) := dk_28 (dk_at dksX1_doubt_1 0 rfl rfl)
theorem dX1_doubt_25 : decode cX1_doubt 25 = .ok (.iload_n 3, 1) := dk_29 (dk_at dksX1_doubt_1 1 rfl rfl)
theorem dX1_doubt_26 : decode cX1_doubt 26 = .ok (.invokevirtual 329, 3) := dk_182 1 73 (dk_at dksX1_doubt_1 2 rfl rfl)
theorem dX1_doubt_29 : decode cX1_doubt 29 = .ok (.pop, 1) := dk_87 (dk_at dksX1_doubt_1 5 rfl rfl)
theorem dX1_doubt_30 : decode cX1_doubt 30 = .ok (.aload_n 0, 1) := dk_42 (dk_at dksX1_doubt_1 6 rfl rfl)
theorem dX1_doubt_31 : decode cX1_doubt 31 = .ok (.getfield 321, 3) := dk_180 1 65 (dk_at dksX1_doubt_1 7 rfl rfl)
theorem dX1_doubt_34 : decode cX1_doubt 34 = .ok (.ifCond .ne 7, 3) := dk_154 0 7 (dk_at dksX1_doubt_1 10 rfl rfl)
theorem dX1_doubt_37 : decode cX1_doubt 37 = .ok (.iconst (-1), 1) := dk_2 (dk_at dksX1_doubt_1 13 rfl rfl)
theorem dX1_doubt_38 : decode cX1_doubt 38 = .ok (.goto 15, 3) := dk_167 0 15 (dk_at dksX1_doubt_1 14 rfl rfl)
theorem dX1_doubt_41 : decode cX1_doubt 41 = .ok (.bipush 100, 2) := dk_16 100 (dk_at dksX1_doubt_1 17 rfl rfl)
theorem dX1_doubt_43 : decode cX1_doubt 43 = .ok (.aload_n 0, 1) := dk_42 (dk_at dksX1_doubt_1 19 rfl rfl)
theorem dX1_doubt_44 : decode cX1_doubt 44 = .ok (.getfield 19, 3) := dk_180 0 19 (dk_at dksX1_doubt_1 20 rfl rfl)
theorem dX1_doubt_47 : decode cX1_doubt 47 = .ok (.imul, 1) := dk_104 (dk_at dksX1_doubt_1 23 rfl rfl)
theorem dX1_doubt_48 : decode cX1_doubt 48 = .ok (.aload_n 0, 1) := dk_42 (dk_at dksX1_doubt_2 0 rfl rfl)
theorem dX1_doubt_49 : decode cX1_doubt 49 = .ok (.getfield 321, 3) := dk_180 1 65 (dk_at dksX1_doubt_2 1 rfl rfl)
theorem dX1_doubt_52 : decode cX1_doubt 52 = .ok (.idiv, 1) := dk_108 (dk_at dksX1_doubt_2 4 rfl rfl)
theorem dX1_doubt_53 : decode cX1_doubt 53 = .ok (.ireturn, 1) := dk_172 (dk_at dksX1_doubt_2 5 rfl rfl)
abbrev cX1_areDays : ByteArray := prog_1_method_35_code
def yX1_areDays : MethodName := ⟨RX1, "areDays", "(II)Z"⟩
def dkwX1_areDays_1 : List UInt8 := [172]
abbrev dktX1_areDays_1 : List UInt8 := dkwX1_areDays_1 ++ []
def dkwX1_areDays_0 : List UInt8 := [26, 184, 0, 178, 153, 0, 19, 27, 184, 0, 178, 153, 0, 12, 26, 27, 163, 0, 7, 4, 167, 0, 4, 3]
abbrev dktX1_areDays_0 : List UInt8 := dkwX1_areDays_0 ++ dktX1_areDays_1
theorem dksX1_areDays_0 : cX1_areDays.data.toList.drop 0 = dktX1_areDays_0 := by decide +kernel
theorem dksX1_areDays_1 : cX1_areDays.data.toList.drop 24 = dktX1_areDays_1 := dk_seg dksX1_areDays_0 24 rfl rfl
theorem dX1_areDays_0 : decode cX1_areDays 0 = .ok (.iload_n 0, 1) := dk_26 (dk_at dksX1_areDays_0 0 rfl rfl)
theorem dX1_areDays_1 : decode cX1_areDays 1 = .ok (.invokestatic 178, 3) := dk_184 0 178 (dk_at dksX1_areDays_0 1 rfl rfl)
theorem dX1_areDays_4 : decode cX1_areDays 4 = .ok (.ifCond .eq 19, 3) := dk_153 0 19 (dk_at dksX1_areDays_0 4 rfl rfl)
theorem dX1_areDays_7 : decode cX1_areDays 7 = .ok (.iload_n 1, 1) := dk_27 (dk_at dksX1_areDays_0 7 rfl rfl)
theorem dX1_areDays_8 : decode cX1_areDays 8 = .ok (.invokestatic 178, 3) := dk_184 0 178 (dk_at dksX1_areDays_0 8 rfl rfl)
theorem dX1_areDays_11 : decode cX1_areDays 11 = .ok (.ifCond .eq 12, 3) := dk_153 0 12 (dk_at dksX1_areDays_0 11 rfl rfl)
theorem dX1_areDays_14 : decode cX1_areDays 14 = .ok (.iload_n 0, 1) := dk_26 (dk_at dksX1_areDays_0 14 rfl rfl)
theorem dX1_areDays_15 : decode cX1_areDays 15 = .ok (.iload_n 1, 1) := dk_27 (dk_at dksX1_areDays_0 15 rfl rfl)
theorem dX1_areDays_16 : decode cX1_areDays 16 = .ok (.if_icmp .gt 7, 3) := dk_163 0 7 (dk_at dksX1_areDays_0 16 rfl rfl)
theorem dX1_areDays_19 : decode cX1_areDays 19 = .ok (.iconst 1, 1) := dk_4 (dk_at dksX1_areDays_0 19 rfl rfl)
theorem dX1_areDays_20 : decode cX1_areDays 20 = .ok (.goto 4, 3) := dk_167 0 4 (dk_at dksX1_areDays_0 20 rfl rfl)
theorem dX1_areDays_23 : decode cX1_areDays 23 = .ok (.iconst 0, 1) := dk_3 (dk_at dksX1_areDays_0 23 rfl rfl)
theorem dX1_areDays_24 : decode cX1_areDays 24 = .ok (.ireturn, 1) := dk_172 (dk_at dksX1_areDays_1 0 rfl rfl)
abbrev cX1_meanOf : ByteArray := prog_1_method_36_code
def yX1_meanOf : MethodName := ⟨RX1, "meanOf", "(III)I"⟩
def dkwX1_meanOf_5 : List UInt8 := [180, 1, 65, 108, 172]
abbrev dktX1_meanOf_5 : List UInt8 := dkwX1_meanOf_5 ++ []
def dkwX1_meanOf_4 : List UInt8 := [132, 5, 1, 167, 255, 170, 42, 180, 1, 65, 154, 0, 7, 3, 167, 0, 13, 16, 100, 21, 4, 104, 42]
abbrev dktX1_meanOf_4 : List UInt8 := dkwX1_meanOf_4 ++ dktX1_meanOf_5
def dkwX1_meanOf_3 : List UInt8 := [167, 0, 24, 21, 4, 42, 25, 6, 182, 1, 61, 96, 54, 4, 42, 89, 180, 1, 65, 4, 96, 181, 1, 65]
abbrev dktX1_meanOf_3 : List UInt8 := dkwX1_meanOf_3 ++ dktX1_meanOf_4
def dkwX1_meanOf_2 : List UInt8 := [160, 0, 48, 25, 6, 182, 1, 48, 153, 0, 40, 25, 6, 180, 0, 151, 28, 29, 184, 0, 113, 154, 0, 6]
abbrev dktX1_meanOf_2 : List UInt8 := dkwX1_meanOf_2 ++ dktX1_meanOf_3
def dkwX1_meanOf_1 : List UInt8 := [180, 0, 71, 21, 5, 182, 0, 144, 192, 0, 81, 58, 6, 25, 6, 180, 0, 160, 180, 1, 68, 27]
abbrev dktX1_meanOf_1 : List UInt8 := dkwX1_meanOf_1 ++ dktX1_meanOf_2
def dkwX1_meanOf_0 : List UInt8 := [3, 54, 4, 42, 3, 181, 1, 65, 3, 54, 5, 21, 5, 42, 180, 0, 71, 182, 0, 121, 162, 0, 80, 42]
abbrev dktX1_meanOf_0 : List UInt8 := dkwX1_meanOf_0 ++ dktX1_meanOf_1
theorem dksX1_meanOf_0 : cX1_meanOf.data.toList.drop 0 = dktX1_meanOf_0 := by decide +kernel
theorem dksX1_meanOf_1 : cX1_meanOf.data.toList.drop 24 = dktX1_meanOf_1 := dk_seg dksX1_meanOf_0 24 rfl rfl
theorem dksX1_meanOf_2 : cX1_meanOf.data.toList.drop 46 = dktX1_meanOf_2 := dk_seg dksX1_meanOf_1 22 rfl rfl
theorem dksX1_meanOf_3 : cX1_meanOf.data.toList.drop 70 = dktX1_meanOf_3 := dk_seg dksX1_meanOf_2 24 rfl rfl
theorem dksX1_meanOf_4 : cX1_meanOf.data.toList.drop 94 = dktX1_meanOf_4 := dk_seg dksX1_meanOf_3 24 rfl rfl
theorem dksX1_meanOf_5 : cX1_meanOf.data.toList.drop 117 = dktX1_meanOf_5 := dk_seg dksX1_meanOf_4 23 rfl rfl
theorem dX1_meanOf_0 : decode cX1_meanOf 0 = .ok (.iconst 0, 1) := dk_3 (dk_at dksX1_meanOf_0 0 rfl rfl)
theorem dX1_meanOf_1 : decode cX1_meanOf 1 = .ok (.istore 4, 2) := dk_54 4 (dk_at dksX1_meanOf_0 1 rfl rfl)
theorem dX1_meanOf_3 : decode cX1_meanOf 3 = .ok (.aload_n 0, 1) := dk_42 (dk_at dksX1_meanOf_0 3 rfl rfl)
theorem dX1_meanOf_4 : decode cX1_meanOf 4 = .ok (.iconst 0, 1) := dk_3 (dk_at dksX1_meanOf_0 4 rfl rfl)
theorem dX1_meanOf_5 : decode cX1_meanOf 5 = .ok (.putfield 321, 3) := dk_181 1 65 (dk_at dksX1_meanOf_0 5 rfl rfl)
theorem dX1_meanOf_8 : decode cX1_meanOf 8 = .ok (.iconst 0, 1) := dk_3 (dk_at dksX1_meanOf_0 8 rfl rfl)
theorem dX1_meanOf_9 : decode cX1_meanOf 9 = .ok (.istore 5, 2) := dk_54 5 (dk_at dksX1_meanOf_0 9 rfl rfl)
theorem dX1_meanOf_11 : decode cX1_meanOf 11 = .ok (.iload 5, 2) := dk_21 5 (dk_at dksX1_meanOf_0 11 rfl rfl)
theorem dX1_meanOf_13 : decode cX1_meanOf 13 = .ok (.aload_n 0, 1) := dk_42 (dk_at dksX1_meanOf_0 13 rfl rfl)
theorem dX1_meanOf_14 : decode cX1_meanOf 14 = .ok (.getfield 71, 3) := dk_180 0 71 (dk_at dksX1_meanOf_0 14 rfl rfl)
theorem dX1_meanOf_17 : decode cX1_meanOf 17 = .ok (.invokevirtual 121, 3) := dk_182 0 121 (dk_at dksX1_meanOf_0 17 rfl rfl)
theorem dX1_meanOf_20 : decode cX1_meanOf 20 = .ok (.if_icmp .ge 80, 3) := dk_162 0 80 (dk_at dksX1_meanOf_0 20 rfl rfl)
theorem dX1_meanOf_23 : decode cX1_meanOf 23 = .ok (.aload_n 0, 1) := dk_42 (dk_at dksX1_meanOf_0 23 rfl rfl)
theorem dX1_meanOf_24 : decode cX1_meanOf 24 = .ok (.getfield 71, 3) := dk_180 0 71 (dk_at dksX1_meanOf_1 0 rfl rfl)
theorem dX1_meanOf_27 : decode cX1_meanOf 27 = .ok (.iload 5, 2) := dk_21 5 (dk_at dksX1_meanOf_1 3 rfl rfl)
theorem dX1_meanOf_29 : decode cX1_meanOf 29 = .ok (.invokevirtual 144, 3) := dk_182 0 144 (dk_at dksX1_meanOf_1 5 rfl rfl)
theorem dX1_meanOf_32 : decode cX1_meanOf 32 = .ok (.checkcast 81, 3) := dk_192 0 81 (dk_at dksX1_meanOf_1 8 rfl rfl)
theorem dX1_meanOf_35 : decode cX1_meanOf 35 = .ok (.astore 6, 2) := dk_58 6 (dk_at dksX1_meanOf_1 11 rfl rfl)
theorem dX1_meanOf_37 : decode cX1_meanOf 37 = .ok (.aload 6, 2) := dk_25 6 (dk_at dksX1_meanOf_1 13 rfl rfl)
theorem dX1_meanOf_39 : decode cX1_meanOf 39 = .ok (.getfield 160, 3) := dk_180 0 160 (dk_at dksX1_meanOf_1 15 rfl rfl)
theorem dX1_meanOf_42 : decode cX1_meanOf 42 = .ok (.getfield 324, 3) := dk_180 1 68 (dk_at dksX1_meanOf_1 18 rfl rfl)
theorem dX1_meanOf_45 : decode cX1_meanOf 45 = .ok (.iload_n 1, 1) := dk_27 (dk_at dksX1_meanOf_1 21 rfl rfl)
theorem dX1_meanOf_46 : decode cX1_meanOf 46 = .ok (.if_icmp .ne 48, 3) := dk_160 0 48 (dk_at dksX1_meanOf_2 0 rfl rfl)
theorem dX1_meanOf_49 : decode cX1_meanOf 49 = .ok (.aload 6, 2) := dk_25 6 (dk_at dksX1_meanOf_2 3 rfl rfl)
theorem dX1_meanOf_51 : decode cX1_meanOf 51 = .ok (.invokevirtual 304, 3) := dk_182 1 48 (dk_at dksX1_meanOf_2 5 rfl rfl)
theorem dX1_meanOf_54 : decode cX1_meanOf 54 = .ok (.ifCond .eq 40, 3) := dk_153 0 40 (dk_at dksX1_meanOf_2 8 rfl rfl)
theorem dX1_meanOf_57 : decode cX1_meanOf 57 = .ok (.aload 6, 2) := dk_25 6 (dk_at dksX1_meanOf_2 11 rfl rfl)
theorem dX1_meanOf_59 : decode cX1_meanOf 59 = .ok (.getfield 151, 3) := dk_180 0 151 (dk_at dksX1_meanOf_2 13 rfl rfl)
theorem dX1_meanOf_62 : decode cX1_meanOf 62 = .ok (.iload_n 2, 1) := dk_28 (dk_at dksX1_meanOf_2 16 rfl rfl)
theorem dX1_meanOf_63 : decode cX1_meanOf 63 = .ok (.iload_n 3, 1) := dk_29 (dk_at dksX1_meanOf_2 17 rfl rfl)
theorem dX1_meanOf_64 : decode cX1_meanOf 64 = .ok (.invokestatic 113, 3) := dk_184 0 113 (dk_at dksX1_meanOf_2 18 rfl rfl)
theorem dX1_meanOf_67 : decode cX1_meanOf 67 = .ok (.ifCond .ne 6, 3) := dk_154 0 6 (dk_at dksX1_meanOf_2 21 rfl rfl)
theorem dX1_meanOf_70 : decode cX1_meanOf 70 = .ok (.goto 24, 3) := dk_167 0 24 (dk_at dksX1_meanOf_3 0 rfl rfl)
theorem dX1_meanOf_73 : decode cX1_meanOf 73 = .ok (.iload 4, 2) := dk_21 4 (dk_at dksX1_meanOf_3 3 rfl rfl)
theorem dX1_meanOf_75 : decode cX1_meanOf 75 = .ok (.aload_n 0, 1) := dk_42 (dk_at dksX1_meanOf_3 5 rfl rfl)
theorem dX1_meanOf_76 : decode cX1_meanOf 76 = .ok (.aload 6, 2) := dk_25 6 (dk_at dksX1_meanOf_3 6 rfl rfl)
theorem dX1_meanOf_78 : decode cX1_meanOf 78 = .ok (.invokevirtual 317, 3) := dk_182 1 61 (dk_at dksX1_meanOf_3 8 rfl rfl)
theorem dX1_meanOf_81 : decode cX1_meanOf 81 = .ok (.iadd, 1) := dk_96 (dk_at dksX1_meanOf_3 11 rfl rfl)
theorem dX1_meanOf_82 : decode cX1_meanOf 82 = .ok (.istore 4, 2) := dk_54 4 (dk_at dksX1_meanOf_3 12 rfl rfl)
theorem dX1_meanOf_84 : decode cX1_meanOf 84 = .ok (.aload_n 0, 1) := dk_42 (dk_at dksX1_meanOf_3 14 rfl rfl)
theorem dX1_meanOf_85 : decode cX1_meanOf 85 = .ok (.dup, 1) := dk_89 (dk_at dksX1_meanOf_3 15 rfl rfl)
theorem dX1_meanOf_86 : decode cX1_meanOf 86 = .ok (.getfield 321, 3) := dk_180 1 65 (dk_at dksX1_meanOf_3 16 rfl rfl)
theorem dX1_meanOf_89 : decode cX1_meanOf 89 = .ok (.iconst 1, 1) := dk_4 (dk_at dksX1_meanOf_3 19 rfl rfl)
theorem dX1_meanOf_90 : decode cX1_meanOf 90 = .ok (.iadd, 1) := dk_96 (dk_at dksX1_meanOf_3 20 rfl rfl)
theorem dX1_meanOf_91 : decode cX1_meanOf 91 = .ok (.putfield 321, 3) := dk_181 1 65 (dk_at dksX1_meanOf_3 21 rfl rfl)
theorem dX1_meanOf_94 : decode cX1_meanOf 94 = .ok (.iinc 5 1, 3) := dk_132 5 1 (dk_at dksX1_meanOf_4 0 rfl rfl)
theorem dX1_meanOf_97 : decode cX1_meanOf 97 = .ok (.goto (-86), 3) := dk_167 255 170 (dk_at dksX1_meanOf_4 3 rfl rfl)
theorem dX1_meanOf_100 : decode cX1_meanOf 100 = .ok (.aload_n 0, 1) := dk_42 (dk_at dksX1_meanOf_4 6 rfl rfl)
theorem dX1_meanOf_101 : decode cX1_meanOf 101 = .ok (.getfield 321, 3) := dk_180 1 65 (dk_at dksX1_meanOf_4 7 rfl rfl)
theorem dX1_meanOf_104 : decode cX1_meanOf 104 = .ok (.ifCond .ne 7, 3) := dk_154 0 7 (dk_at dksX1_meanOf_4 10 rfl rfl)
theorem dX1_meanOf_107 : decode cX1_meanOf 107 = .ok (.iconst 0, 1) := dk_3 (dk_at dksX1_meanOf_4 13 rfl rfl)
theorem dX1_meanOf_108 : decode cX1_meanOf 108 = .ok (.goto 13, 3) := dk_167 0 13 (dk_at dksX1_meanOf_4 14 rfl rfl)
theorem dX1_meanOf_111 : decode cX1_meanOf 111 = .ok (.bipush 100, 2) := dk_16 100 (dk_at dksX1_meanOf_4 17 rfl rfl)
theorem dX1_meanOf_113 : decode cX1_meanOf 113 = .ok (.iload 4, 2) := dk_21 4 (dk_at dksX1_meanOf_4 19 rfl rfl)
theorem dX1_meanOf_115 : decode cX1_meanOf 115 = .ok (.imul, 1) := dk_104 (dk_at dksX1_meanOf_4 21 rfl rfl)
theorem dX1_meanOf_116 : decode cX1_meanOf 116 = .ok (.aload_n 0, 1) := dk_42 (dk_at dksX1_meanOf_4 22 rfl rfl)
theorem dX1_meanOf_117 : decode cX1_meanOf 117 = .ok (.getfield 321, 3) := dk_180 1 65 (dk_at dksX1_meanOf_5 0 rfl rfl)
theorem dX1_meanOf_120 : decode cX1_meanOf 120 = .ok (.idiv, 1) := dk_108 (dk_at dksX1_meanOf_5 3 rfl rfl)
theorem dX1_meanOf_121 : decode cX1_meanOf 121 = .ok (.ireturn, 1) := dk_172 (dk_at dksX1_meanOf_5 4 rfl rfl)
abbrev cX1_fair : ByteArray := prog_1_method_33_code
def yX1_fair : MethodName := ⟨RX1, "fair", "(LSecretBuyers$Visit;)I"⟩
def dkwX1_fair_0 : List UInt8 := [43, 180, 1, 7, 42, 180, 0, 74, 43, 180, 0, 148, 46, 100, 172]
abbrev dktX1_fair_0 : List UInt8 := dkwX1_fair_0 ++ []
theorem dksX1_fair_0 : cX1_fair.data.toList.drop 0 = dktX1_fair_0 := by decide +kernel
theorem dX1_fair_0 : decode cX1_fair 0 = .ok (.aload_n 1, 1) := dk_43 (dk_at dksX1_fair_0 0 rfl rfl)
theorem dX1_fair_1 : decode cX1_fair 1 = .ok (.getfield 263, 3) := dk_180 1 7 (dk_at dksX1_fair_0 1 rfl rfl)
theorem dX1_fair_4 : decode cX1_fair 4 = .ok (.aload_n 0, 1) := dk_42 (dk_at dksX1_fair_0 4 rfl rfl)
theorem dX1_fair_5 : decode cX1_fair 5 = .ok (.getfield 74, 3) := dk_180 0 74 (dk_at dksX1_fair_0 5 rfl rfl)
theorem dX1_fair_8 : decode cX1_fair 8 = .ok (.aload_n 1, 1) := dk_43 (dk_at dksX1_fair_0 8 rfl rfl)
theorem dX1_fair_9 : decode cX1_fair 9 = .ok (.getfield 148, 3) := dk_180 0 148 (dk_at dksX1_fair_0 9 rfl rfl)
theorem dX1_fair_12 : decode cX1_fair 12 = .ok (.iaload, 1) := dk_46 (dk_at dksX1_fair_0 12 rfl rfl)
theorem dX1_fair_13 : decode cX1_fair 13 = .ok (.isub, 1) := dk_100 (dk_at dksX1_fair_0 13 rfl rfl)
theorem dX1_fair_14 : decode cX1_fair 14 = .ok (.ireturn, 1) := dk_172 (dk_at dksX1_fair_0 14 rfl rfl)
abbrev cX1_apart : ByteArray := prog_1_method_39_code
def yX1_apart : MethodName := ⟨RX1, "apart", "(IIII)I"⟩
def dkwX1_apart_5 : List UInt8 := [162, 0, 7, 4, 167, 0, 4, 5, 172]
abbrev dktX1_apart_5 : List UInt8 := dkwX1_apart_5 ++ []
def dkwX1_apart_4 : List UInt8 := [16, 100, 42, 180, 0, 19, 104, 42, 180, 1, 65, 108, 96, 163, 0, 7, 3, 167, 0, 15, 21, 5, 21, 7]
abbrev dktX1_apart_4 : List UInt8 := dkwX1_apart_4 ++ dktX1_apart_5
def dkwX1_apart_3 : List UInt8 := [154, 0, 5, 2, 172, 21, 5, 21, 7, 100, 184, 1, 77, 16, 100, 42, 180, 0, 19, 104, 21, 6, 108]
abbrev dktX1_apart_3 : List UInt8 := dkwX1_apart_3 ++ dktX1_apart_4
def dkwX1_apart_2 : List UInt8 := [180, 1, 65, 54, 6, 42, 28, 29, 21, 4, 182, 1, 73, 54, 7, 21, 6, 153, 0, 10, 42, 180, 1, 65]
abbrev dktX1_apart_2 : List UInt8 := dkwX1_apart_2 ++ dktX1_apart_3
def dkwX1_apart_1 : List UInt8 := [184, 1, 69, 154, 0, 5, 2, 172, 42, 182, 1, 37, 42, 27, 29, 21, 4, 182, 1, 73, 54, 5, 42]
abbrev dktX1_apart_1 : List UInt8 := dkwX1_apart_1 ++ dktX1_apart_2
def dkwX1_apart_0 : List UInt8 := [42, 27, 182, 0, 137, 153, 0, 25, 42, 28, 182, 0, 137, 153, 0, 17, 27, 28, 159, 0, 12, 29, 21, 4]
abbrev dktX1_apart_0 : List UInt8 := dkwX1_apart_0 ++ dktX1_apart_1
theorem dksX1_apart_0 : cX1_apart.data.toList.drop 0 = dktX1_apart_0 := by decide +kernel
theorem dksX1_apart_1 : cX1_apart.data.toList.drop 24 = dktX1_apart_1 := dk_seg dksX1_apart_0 24 rfl rfl
theorem dksX1_apart_2 : cX1_apart.data.toList.drop 47 = dktX1_apart_2 := dk_seg dksX1_apart_1 23 rfl rfl
theorem dksX1_apart_3 : cX1_apart.data.toList.drop 71 = dktX1_apart_3 := dk_seg dksX1_apart_2 24 rfl rfl
theorem dksX1_apart_4 : cX1_apart.data.toList.drop 94 = dktX1_apart_4 := dk_seg dksX1_apart_3 23 rfl rfl
theorem dksX1_apart_5 : cX1_apart.data.toList.drop 118 = dktX1_apart_5 := dk_seg dksX1_apart_4 24 rfl rfl
theorem dX1_apart_0 : decode cX1_apart 0 = .ok (.aload_n 0, 1) := dk_42 (dk_at dksX1_apart_0 0 rfl rfl)
theorem dX1_apart_1 : decode cX1_apart 1 = .ok (.iload_n 1, 1) := dk_27 (dk_at dksX1_apart_0 1 rfl rfl)
theorem dX1_apart_2 : decode cX1_apart 2 = .ok (.invokevirtual 137, 3) := dk_182 0 137 (dk_at dksX1_apart_0 2 rfl rfl)
theorem dX1_apart_5 : decode cX1_apart 5 = .ok (.ifCond .eq 25, 3) := dk_153 0 25 (dk_at dksX1_apart_0 5 rfl rfl)
theorem dX1_apart_8 : decode cX1_apart 8 = .ok (.aload_n 0, 1) := dk_42 (dk_at dksX1_apart_0 8 rfl rfl)
theorem dX1_apart_9 : decode cX1_apart 9 = .ok (.iload_n 2, 1) := dk_28 (dk_at dksX1_apart_0 9 rfl rfl)
theorem dX1_apart_10 : decode cX1_apart 10 = .ok (.invokevirtual 137, 3) := dk_182 0 137 (dk_at dksX1_apart_0 10 rfl rfl)
theorem dX1_apart_13 : decode cX1_apart 13 = .ok (.ifCond .eq 17, 3) := dk_153 0 17 (dk_at dksX1_apart_0 13 rfl rfl)
theorem dX1_apart_16 : decode cX1_apart 16 = .ok (.iload_n 1, 1) := dk_27 (dk_at dksX1_apart_0 16 rfl rfl)
theorem dX1_apart_17 : decode cX1_apart 17 = .ok (.iload_n 2, 1) := dk_28 (dk_at dksX1_apart_0 17 rfl rfl)
theorem dX1_apart_18 : decode cX1_apart 18 = .ok (.if_icmp .eq 12, 3) := dk_159 0 12 (dk_at dksX1_apart_0 18 rfl rfl)
theorem dX1_apart_21 : decode cX1_apart 21 = .ok (.iload_n 3, 1) := dk_29 (dk_at dksX1_apart_0 21 rfl rfl)
theorem dX1_apart_22 : decode cX1_apart 22 = .ok (.iload 4, 2) := dk_21 4 (dk_at dksX1_apart_0 22 rfl rfl)
theorem dX1_apart_24 : decode cX1_apart 24 = .ok (.invokestatic 325, 3) := dk_184 1 69 (dk_at dksX1_apart_1 0 rfl rfl)
theorem dX1_apart_27 : decode cX1_apart 27 = .ok (.ifCond .ne 5, 3) := dk_154 0 5 (dk_at dksX1_apart_1 3 rfl rfl)
theorem dX1_apart_30 : decode cX1_apart 30 = .ok (.iconst (-1), 1) := dk_2 (dk_at dksX1_apart_1 6 rfl rfl)
theorem dX1_apart_31 : decode cX1_apart 31 = .ok (.ireturn, 1) := dk_172 (dk_at dksX1_apart_1 7 rfl rfl)
theorem dX1_apart_32 : decode cX1_apart 32 = .ok (.aload_n 0, 1) := dk_42 (dk_at dksX1_apart_1 8 rfl rfl)
theorem dX1_apart_33 : decode cX1_apart 33 = .ok (.invokevirtual 293, 3) := dk_182 1 37 (dk_at dksX1_apart_1 9 rfl rfl)
theorem dX1_apart_36 : decode cX1_apart 36 = .ok (.aload_n 0, 1) := dk_42 (dk_at dksX1_apart_1 12 rfl rfl)
theorem dX1_apart_37 : decode cX1_apart 37 = .ok (.iload_n 1, 1) := dk_27 (dk_at dksX1_apart_1 13 rfl rfl)
theorem dX1_apart_38 : decode cX1_apart 38 = .ok (.iload_n 3, 1) := dk_29 (dk_at dksX1_apart_1 14 rfl rfl)
theorem dX1_apart_39 : decode cX1_apart 39 = .ok (.iload 4, 2) := dk_21 4 (dk_at dksX1_apart_1 15 rfl rfl)
theorem dX1_apart_41 : decode cX1_apart 41 = .ok (.invokevirtual 329, 3) := dk_182 1 73 (dk_at dksX1_apart_1 17 rfl rfl)
theorem dX1_apart_44 : decode cX1_apart 44 = .ok (.istore 5, 2) := dk_54 5 (dk_at dksX1_apart_1 20 rfl rfl)
theorem dX1_apart_46 : decode cX1_apart 46 = .ok (.aload_n 0, 1) := dk_42 (dk_at dksX1_apart_1 22 rfl rfl)
theorem dX1_apart_47 : decode cX1_apart 47 = .ok (.getfield 321, 3) := dk_180 1 65 (dk_at dksX1_apart_2 0 rfl rfl)
theorem dX1_apart_50 : decode cX1_apart 50 = .ok (.istore 6, 2) := dk_54 6 (dk_at dksX1_apart_2 3 rfl rfl)
theorem dX1_apart_52 : decode cX1_apart 52 = .ok (.aload_n 0, 1) := dk_42 (dk_at dksX1_apart_2 5 rfl rfl)
theorem dX1_apart_53 : decode cX1_apart 53 = .ok (.iload_n 2, 1) := dk_28 (dk_at dksX1_apart_2 6 rfl rfl)
theorem dX1_apart_54 : decode cX1_apart 54 = .ok (.iload_n 3, 1) := dk_29 (dk_at dksX1_apart_2 7 rfl rfl)
theorem dX1_apart_55 : decode cX1_apart 55 = .ok (.iload 4, 2) := dk_21 4 (dk_at dksX1_apart_2 8 rfl rfl)
theorem dX1_apart_57 : decode cX1_apart 57 = .ok (.invokevirtual 329, 3) := dk_182 1 73 (dk_at dksX1_apart_2 10 rfl rfl)
theorem dX1_apart_60 : decode cX1_apart 60 = .ok (.istore 7, 2) := dk_54 7 (dk_at dksX1_apart_2 13 rfl rfl)
theorem dX1_apart_62 : decode cX1_apart 62 = .ok (.iload 6, 2) := dk_21 6 (dk_at dksX1_apart_2 15 rfl rfl)
theorem dX1_apart_64 : decode cX1_apart 64 = .ok (.ifCond .eq 10, 3) := dk_153 0 10 (dk_at dksX1_apart_2 17 rfl rfl)
theorem dX1_apart_67 : decode cX1_apart 67 = .ok (.aload_n 0, 1) := dk_42 (dk_at dksX1_apart_2 20 rfl rfl)
theorem dX1_apart_68 : decode cX1_apart 68 = .ok (.getfield 321, 3) := dk_180 1 65 (dk_at dksX1_apart_2 21 rfl rfl)
theorem dX1_apart_71 : decode cX1_apart 71 = .ok (.ifCond .ne 5, 3) := dk_154 0 5 (dk_at dksX1_apart_3 0 rfl rfl)
theorem dX1_apart_74 : decode cX1_apart 74 = .ok (.iconst (-1), 1) := dk_2 (dk_at dksX1_apart_3 3 rfl rfl)
theorem dX1_apart_75 : decode cX1_apart 75 = .ok (.ireturn, 1) := dk_172 (dk_at dksX1_apart_3 4 rfl rfl)
theorem dX1_apart_76 : decode cX1_apart 76 = .ok (.iload 5, 2) := dk_21 5 (dk_at dksX1_apart_3 5 rfl rfl)
theorem dX1_apart_78 : decode cX1_apart 78 = .ok (.iload 7, 2) := dk_21 7 (dk_at dksX1_apart_3 7 rfl rfl)
theorem dX1_apart_80 : decode cX1_apart 80 = .ok (.isub, 1) := dk_100 (dk_at dksX1_apart_3 9 rfl rfl)
theorem dX1_apart_81 : decode cX1_apart 81 = .ok (.invokestatic 333, 3) := dk_184 1 77 (dk_at dksX1_apart_3 10 rfl rfl)
theorem dX1_apart_84 : decode cX1_apart 84 = .ok (.bipush 100, 2) := dk_16 100 (dk_at dksX1_apart_3 13 rfl rfl)
theorem dX1_apart_86 : decode cX1_apart 86 = .ok (.aload_n 0, 1) := dk_42 (dk_at dksX1_apart_3 15 rfl rfl)
theorem dX1_apart_87 : decode cX1_apart 87 = .ok (.getfield 19, 3) := dk_180 0 19 (dk_at dksX1_apart_3 16 rfl rfl)
theorem dX1_apart_90 : decode cX1_apart 90 = .ok (.imul, 1) := dk_104 (dk_at dksX1_apart_3 19 rfl rfl)
theorem dX1_apart_91 : decode cX1_apart 91 = .ok (.iload 6, 2) := dk_21 6 (dk_at dksX1_apart_3 20 rfl rfl)
theorem dX1_apart_93 : decode cX1_apart 93 = .ok (.idiv, 1) := dk_108 (dk_at dksX1_apart_3 22 rfl rfl)
theorem dX1_apart_94 : decode cX1_apart 94 = .ok (.bipush 100, 2) := dk_16 100 (dk_at dksX1_apart_4 0 rfl rfl)
theorem dX1_apart_96 : decode cX1_apart 96 = .ok (.aload_n 0, 1) := dk_42 (dk_at dksX1_apart_4 2 rfl rfl)
theorem dX1_apart_97 : decode cX1_apart 97 = .ok (.getfield 19, 3) := dk_180 0 19 (dk_at dksX1_apart_4 3 rfl rfl)
theorem dX1_apart_100 : decode cX1_apart 100 = .ok (.imul, 1) := dk_104 (dk_at dksX1_apart_4 6 rfl rfl)
theorem dX1_apart_101 : decode cX1_apart 101 = .ok (.aload_n 0, 1) := dk_42 (dk_at dksX1_apart_4 7 rfl rfl)
theorem dX1_apart_102 : decode cX1_apart 102 = .ok (.getfield 321, 3) := dk_180 1 65 (dk_at dksX1_apart_4 8 rfl rfl)
theorem dX1_apart_105 : decode cX1_apart 105 = .ok (.idiv, 1) := dk_108 (dk_at dksX1_apart_4 11 rfl rfl)
theorem dX1_apart_106 : decode cX1_apart 106 = .ok (.iadd, 1) := dk_96 (dk_at dksX1_apart_4 12 rfl rfl)
theorem dX1_apart_107 : decode cX1_apart 107 = .ok (.if_icmp .gt 7, 3) := dk_163 0 7 (dk_at dksX1_apart_4 13 rfl rfl)
theorem dX1_apart_110 : decode cX1_apart 110 = .ok (.iconst 0, 1) := dk_3 (dk_at dksX1_apart_4 16 rfl rfl)
theorem dX1_apart_111 : decode cX1_apart 111 = .ok (.goto 15, 3) := dk_167 0 15 (dk_at dksX1_apart_4 17 rfl rfl)
theorem dX1_apart_114 : decode cX1_apart 114 = .ok (.iload 5, 2) := dk_21 5 (dk_at dksX1_apart_4 20 rfl rfl)
theorem dX1_apart_116 : decode cX1_apart 116 = .ok (.iload 7, 2) := dk_21 7 (dk_at dksX1_apart_4 22 rfl rfl)
theorem dX1_apart_118 : decode cX1_apart 118 = .ok (.if_icmp .ge 7, 3) := dk_162 0 7 (dk_at dksX1_apart_5 0 rfl rfl)
theorem dX1_apart_121 : decode cX1_apart 121 = .ok (.iconst 1, 1) := dk_4 (dk_at dksX1_apart_5 3 rfl rfl)
theorem dX1_apart_122 : decode cX1_apart 122 = .ok (.goto 4, 3) := dk_167 0 4 (dk_at dksX1_apart_5 4 rfl rfl)
theorem dX1_apart_125 : decode cX1_apart 125 = .ok (.iconst 2, 1) := dk_5 (dk_at dksX1_apart_5 7 rfl rfl)
theorem dX1_apart_126 : decode cX1_apart 126 = .ok (.ireturn, 1) := dk_172 (dk_at dksX1_apart_5 8 rfl rfl)
abbrev cX1_order : ByteArray := prog_1_method_41_code
def yX1_order : MethodName := ⟨RX1, "order", "(IIII)I"⟩
def dkwX1_order_10 : List UInt8 := [21, 5, 167, 0, 5, 21, 6, 172]
abbrev dktX1_order_10 : List UInt8 := dkwX1_order_10 ++ []
def dkwX1_order_9 : List UInt8 := [128, 54, 6, 132, 7, 1, 167, 255, 104, 21, 5, 154, 0, 7, 2, 167, 0, 15, 21, 4, 154, 0, 8]
abbrev dktX1_order_9 : List UInt8 := dkwX1_order_9 ++ dktX1_order_10
def dkwX1_order_8 : List UInt8 := [4, 167, 0, 4, 3, 54, 8, 132, 9, 1, 167, 255, 196, 21, 8, 153, 0, 12, 21, 6, 4, 21, 7, 120]
abbrev dktX1_order_8 : List UInt8 := dkwX1_order_8 ++ dktX1_order_9
def dkwX1_order_7 : List UInt8 := [192, 0, 98, 180, 0, 250, 27, 160, 0, 17, 42, 21, 7, 21, 9, 28, 29, 182, 1, 82, 4, 159, 0, 7]
abbrev dktX1_order_7 : List UInt8 := dkwX1_order_7 ++ dktX1_order_8
def dkwX1_order_6 : List UInt8 := [42, 180, 0, 33, 182, 0, 121, 162, 0, 54, 21, 8, 153, 0, 40, 42, 180, 0, 33, 21, 9, 182, 0, 144]
abbrev dktX1_order_6 : List UInt8 := dkwX1_order_6 ++ dktX1_order_7
def dkwX1_order_5 : List UInt8 := [21, 5, 42, 21, 7, 27, 28, 29, 182, 1, 86, 184, 1, 89, 54, 5, 4, 54, 8, 3, 54, 9, 21, 9]
abbrev dktX1_order_5 : List UInt8 := dkwX1_order_5 ++ dktX1_order_6
def dkwX1_order_4 : List UInt8 := [182, 0, 144, 192, 0, 98, 180, 0, 250, 27, 160, 0, 112, 42, 180, 1, 65, 154, 0, 6, 167, 0, 102]
abbrev dktX1_order_4 : List UInt8 := dkwX1_order_4 ++ dktX1_order_5
def dkwX1_order_3 : List UInt8 := [180, 0, 33, 182, 0, 121, 162, 0, 146, 42, 21, 7, 28, 29, 182, 1, 73, 87, 42, 180, 0, 33, 21, 7]
abbrev dktX1_order_3 : List UInt8 := dkwX1_order_3 ++ dktX1_order_4
def dkwX1_order_2 : List UInt8 := [21, 5, 3, 79, 132, 5, 1, 167, 255, 238, 3, 54, 5, 3, 54, 6, 3, 54, 7, 21, 7, 42]
abbrev dktX1_order_2 : List UInt8 := dkwX1_order_2 ++ dktX1_order_3
def dkwX1_order_1 : List UInt8 := [154, 0, 5, 2, 172, 42, 182, 1, 37, 3, 54, 5, 21, 5, 16, 20, 162, 0, 17, 42, 180, 0, 90]
abbrev dktX1_order_1 : List UInt8 := dkwX1_order_1 ++ dktX1_order_2
def dkwX1_order_0 : List UInt8 := [27, 3, 6, 184, 0, 113, 153, 0, 21, 28, 29, 184, 1, 69, 153, 0, 13, 21, 4, 3, 4, 184, 0, 113]
abbrev dktX1_order_0 : List UInt8 := dkwX1_order_0 ++ dktX1_order_1
theorem dksX1_order_0 : cX1_order.data.toList.drop 0 = dktX1_order_0 := by decide +kernel
theorem dksX1_order_1 : cX1_order.data.toList.drop 24 = dktX1_order_1 := dk_seg dksX1_order_0 24 rfl rfl
theorem dksX1_order_2 : cX1_order.data.toList.drop 47 = dktX1_order_2 := dk_seg dksX1_order_1 23 rfl rfl
theorem dksX1_order_3 : cX1_order.data.toList.drop 69 = dktX1_order_3 := dk_seg dksX1_order_2 22 rfl rfl
theorem dksX1_order_4 : cX1_order.data.toList.drop 93 = dktX1_order_4 := dk_seg dksX1_order_3 24 rfl rfl
theorem dksX1_order_5 : cX1_order.data.toList.drop 116 = dktX1_order_5 := dk_seg dksX1_order_4 23 rfl rfl
theorem dksX1_order_6 : cX1_order.data.toList.drop 140 = dktX1_order_6 := dk_seg dksX1_order_5 24 rfl rfl
theorem dksX1_order_7 : cX1_order.data.toList.drop 164 = dktX1_order_7 := dk_seg dksX1_order_6 24 rfl rfl
theorem dksX1_order_8 : cX1_order.data.toList.drop 188 = dktX1_order_8 := dk_seg dksX1_order_7 24 rfl rfl
theorem dksX1_order_9 : cX1_order.data.toList.drop 212 = dktX1_order_9 := dk_seg dksX1_order_8 24 rfl rfl
theorem dksX1_order_10 : cX1_order.data.toList.drop 235 = dktX1_order_10 := dk_seg dksX1_order_9 23 rfl rfl
theorem dX1_order_0 : decode cX1_order 0 = .ok (.iload_n 1, 1) := dk_27 (dk_at dksX1_order_0 0 rfl rfl)
theorem dX1_order_1 : decode cX1_order 1 = .ok (.iconst 0, 1) := dk_3 (dk_at dksX1_order_0 1 rfl rfl)
theorem dX1_order_2 : decode cX1_order 2 = .ok (.iconst 3, 1) := dk_6 (dk_at dksX1_order_0 2 rfl rfl)
theorem dX1_order_3 : decode cX1_order 3 = .ok (.invokestatic 113, 3) := dk_184 0 113 (dk_at dksX1_order_0 3 rfl rfl)
theorem dX1_order_6 : decode cX1_order 6 = .ok (.ifCond .eq 21, 3) := dk_153 0 21 (dk_at dksX1_order_0 6 rfl rfl)
theorem dX1_order_9 : decode cX1_order 9 = .ok (.iload_n 2, 1) := dk_28 (dk_at dksX1_order_0 9 rfl rfl)
theorem dX1_order_10 : decode cX1_order 10 = .ok (.iload_n 3, 1) := dk_29 (dk_at dksX1_order_0 10 rfl rfl)
theorem dX1_order_11 : decode cX1_order 11 = .ok (.invokestatic 325, 3) := dk_184 1 69 (dk_at dksX1_order_0 11 rfl rfl)
theorem dX1_order_14 : decode cX1_order 14 = .ok (.ifCond .eq 13, 3) := dk_153 0 13 (dk_at dksX1_order_0 14 rfl rfl)
theorem dX1_order_17 : decode cX1_order 17 = .ok (.iload 4, 2) := dk_21 4 (dk_at dksX1_order_0 17 rfl rfl)
theorem dX1_order_19 : decode cX1_order 19 = .ok (.iconst 0, 1) := dk_3 (dk_at dksX1_order_0 19 rfl rfl)
theorem dX1_order_20 : decode cX1_order 20 = .ok (.iconst 1, 1) := dk_4 (dk_at dksX1_order_0 20 rfl rfl)
theorem dX1_order_21 : decode cX1_order 21 = .ok (.invokestatic 113, 3) := dk_184 0 113 (dk_at dksX1_order_0 21 rfl rfl)
theorem dX1_order_24 : decode cX1_order 24 = .ok (.ifCond .ne 5, 3) := dk_154 0 5 (dk_at dksX1_order_1 0 rfl rfl)
theorem dX1_order_27 : decode cX1_order 27 = .ok (.iconst (-1), 1) := dk_2 (dk_at dksX1_order_1 3 rfl rfl)
theorem dX1_order_28 : decode cX1_order 28 = .ok (.ireturn, 1) := dk_172 (dk_at dksX1_order_1 4 rfl rfl)
theorem dX1_order_29 : decode cX1_order 29 = .ok (.aload_n 0, 1) := dk_42 (dk_at dksX1_order_1 5 rfl rfl)
theorem dX1_order_30 : decode cX1_order 30 = .ok (.invokevirtual 293, 3) := dk_182 1 37 (dk_at dksX1_order_1 6 rfl rfl)
theorem dX1_order_33 : decode cX1_order 33 = .ok (.iconst 0, 1) := dk_3 (dk_at dksX1_order_1 9 rfl rfl)
theorem dX1_order_34 : decode cX1_order 34 = .ok (.istore 5, 2) := dk_54 5 (dk_at dksX1_order_1 10 rfl rfl)
theorem dX1_order_36 : decode cX1_order 36 = .ok (.iload 5, 2) := dk_21 5 (dk_at dksX1_order_1 12 rfl rfl)
theorem dX1_order_38 : decode cX1_order 38 = .ok (.bipush 20, 2) := dk_16 20 (dk_at dksX1_order_1 14 rfl rfl)
theorem dX1_order_40 : decode cX1_order 40 = .ok (.if_icmp .ge 17, 3) := dk_162 0 17 (dk_at dksX1_order_1 16 rfl rfl)
theorem dX1_order_43 : decode cX1_order 43 = .ok (.aload_n 0, 1) := dk_42 (dk_at dksX1_order_1 19 rfl rfl)
theorem dX1_order_44 : decode cX1_order 44 = .ok (.getfield 90, 3) := dk_180 0 90 (dk_at dksX1_order_1 20 rfl rfl)
theorem dX1_order_47 : decode cX1_order 47 = .ok (.iload 5, 2) := dk_21 5 (dk_at dksX1_order_2 0 rfl rfl)
theorem dX1_order_49 : decode cX1_order 49 = .ok (.iconst 0, 1) := dk_3 (dk_at dksX1_order_2 2 rfl rfl)
theorem dX1_order_50 : decode cX1_order 50 = .ok (.iastore, 1) := dk_79 (dk_at dksX1_order_2 3 rfl rfl)
theorem dX1_order_51 : decode cX1_order 51 = .ok (.iinc 5 1, 3) := dk_132 5 1 (dk_at dksX1_order_2 4 rfl rfl)
theorem dX1_order_54 : decode cX1_order 54 = .ok (.goto (-18), 3) := dk_167 255 238 (dk_at dksX1_order_2 7 rfl rfl)
theorem dX1_order_57 : decode cX1_order 57 = .ok (.iconst 0, 1) := dk_3 (dk_at dksX1_order_2 10 rfl rfl)
theorem dX1_order_58 : decode cX1_order 58 = .ok (.istore 5, 2) := dk_54 5 (dk_at dksX1_order_2 11 rfl rfl)
theorem dX1_order_60 : decode cX1_order 60 = .ok (.iconst 0, 1) := dk_3 (dk_at dksX1_order_2 13 rfl rfl)
theorem dX1_order_61 : decode cX1_order 61 = .ok (.istore 6, 2) := dk_54 6 (dk_at dksX1_order_2 14 rfl rfl)
theorem dX1_order_63 : decode cX1_order 63 = .ok (.iconst 0, 1) := dk_3 (dk_at dksX1_order_2 16 rfl rfl)
theorem dX1_order_64 : decode cX1_order 64 = .ok (.istore 7, 2) := dk_54 7 (dk_at dksX1_order_2 17 rfl rfl)
theorem dX1_order_66 : decode cX1_order 66 = .ok (.iload 7, 2) := dk_21 7 (dk_at dksX1_order_2 19 rfl rfl)
theorem dX1_order_68 : decode cX1_order 68 = .ok (.aload_n 0, 1) := dk_42 (dk_at dksX1_order_2 21 rfl rfl)
theorem dX1_order_69 : decode cX1_order 69 = .ok (.getfield 33, 3) := dk_180 0 33 (dk_at dksX1_order_3 0 rfl rfl)
theorem dX1_order_72 : decode cX1_order 72 = .ok (.invokevirtual 121, 3) := dk_182 0 121 (dk_at dksX1_order_3 3 rfl rfl)
theorem dX1_order_75 : decode cX1_order 75 = .ok (.if_icmp .ge 146, 3) := dk_162 0 146 (dk_at dksX1_order_3 6 rfl rfl)
theorem dX1_order_78 : decode cX1_order 78 = .ok (.aload_n 0, 1) := dk_42 (dk_at dksX1_order_3 9 rfl rfl)
theorem dX1_order_79 : decode cX1_order 79 = .ok (.iload 7, 2) := dk_21 7 (dk_at dksX1_order_3 10 rfl rfl)
theorem dX1_order_81 : decode cX1_order 81 = .ok (.iload_n 2, 1) := dk_28 (dk_at dksX1_order_3 12 rfl rfl)
theorem dX1_order_82 : decode cX1_order 82 = .ok (.iload_n 3, 1) := dk_29 (dk_at dksX1_order_3 13 rfl rfl)
theorem dX1_order_83 : decode cX1_order 83 = .ok (.invokevirtual 329, 3) := dk_182 1 73 (dk_at dksX1_order_3 14 rfl rfl)
theorem dX1_order_86 : decode cX1_order 86 = .ok (.pop, 1) := dk_87 (dk_at dksX1_order_3 17 rfl rfl)
theorem dX1_order_87 : decode cX1_order 87 = .ok (.aload_n 0, 1) := dk_42 (dk_at dksX1_order_3 18 rfl rfl)
theorem dX1_order_88 : decode cX1_order 88 = .ok (.getfield 33, 3) := dk_180 0 33 (dk_at dksX1_order_3 19 rfl rfl)
theorem dX1_order_91 : decode cX1_order 91 = .ok (.iload 7, 2) := dk_21 7 (dk_at dksX1_order_3 22 rfl rfl)
theorem dX1_order_93 : decode cX1_order 93 = .ok (.invokevirtual 144, 3) := dk_182 0 144 (dk_at dksX1_order_4 0 rfl rfl)
theorem dX1_order_96 : decode cX1_order 96 = .ok (.checkcast 98, 3) := dk_192 0 98 (dk_at dksX1_order_4 3 rfl rfl)
theorem dX1_order_99 : decode cX1_order 99 = .ok (.getfield 250, 3) := dk_180 0 250 (dk_at dksX1_order_4 6 rfl rfl)
theorem dX1_order_102 : decode cX1_order 102 = .ok (.iload_n 1, 1) := dk_27 (dk_at dksX1_order_4 9 rfl rfl)
theorem dX1_order_103 : decode cX1_order 103 = .ok (.if_icmp .ne 112, 3) := dk_160 0 112 (dk_at dksX1_order_4 10 rfl rfl)
theorem dX1_order_106 : decode cX1_order 106 = .ok (.aload_n 0, 1) := dk_42 (dk_at dksX1_order_4 13 rfl rfl)
theorem dX1_order_107 : decode cX1_order 107 = .ok (.getfield 321, 3) := dk_180 1 65 (dk_at dksX1_order_4 14 rfl rfl)
theorem dX1_order_110 : decode cX1_order 110 = .ok (.ifCond .ne 6, 3) := dk_154 0 6 (dk_at dksX1_order_4 17 rfl rfl)
theorem dX1_order_113 : decode cX1_order 113 = .ok (.goto 102, 3) := dk_167 0 102 (dk_at dksX1_order_4 20 rfl rfl)
theorem dX1_order_116 : decode cX1_order 116 = .ok (.iload 5, 2) := dk_21 5 (dk_at dksX1_order_5 0 rfl rfl)
theorem dX1_order_118 : decode cX1_order 118 = .ok (.aload_n 0, 1) := dk_42 (dk_at dksX1_order_5 2 rfl rfl)
theorem dX1_order_119 : decode cX1_order 119 = .ok (.iload 7, 2) := dk_21 7 (dk_at dksX1_order_5 3 rfl rfl)
theorem dX1_order_121 : decode cX1_order 121 = .ok (.iload_n 1, 1) := dk_27 (dk_at dksX1_order_5 5 rfl rfl)
theorem dX1_order_122 : decode cX1_order 122 = .ok (.iload_n 2, 1) := dk_28 (dk_at dksX1_order_5 6 rfl rfl)
theorem dX1_order_123 : decode cX1_order 123 = .ok (.iload_n 3, 1) := dk_29 (dk_at dksX1_order_5 7 rfl rfl)
theorem dX1_order_124 : decode cX1_order 124 = .ok (.invokevirtual 342, 3) := dk_182 1 86 (dk_at dksX1_order_5 8 rfl rfl)
theorem dX1_order_127 : decode cX1_order 127 = .ok (.invokestatic 345, 3) := dk_184 1 89 (dk_at dksX1_order_5 11 rfl rfl)
theorem dX1_order_130 : decode cX1_order 130 = .ok (.istore 5, 2) := dk_54 5 (dk_at dksX1_order_5 14 rfl rfl)
theorem dX1_order_132 : decode cX1_order 132 = .ok (.iconst 1, 1) := dk_4 (dk_at dksX1_order_5 16 rfl rfl)
theorem dX1_order_133 : decode cX1_order 133 = .ok (.istore 8, 2) := dk_54 8 (dk_at dksX1_order_5 17 rfl rfl)
theorem dX1_order_135 : decode cX1_order 135 = .ok (.iconst 0, 1) := dk_3 (dk_at dksX1_order_5 19 rfl rfl)
theorem dX1_order_136 : decode cX1_order 136 = .ok (.istore 9, 2) := dk_54 9 (dk_at dksX1_order_5 20 rfl rfl)
theorem dX1_order_138 : decode cX1_order 138 = .ok (.iload 9, 2) := dk_21 9 (dk_at dksX1_order_5 22 rfl rfl)
theorem dX1_order_140 : decode cX1_order 140 = .ok (.aload_n 0, 1) := dk_42 (dk_at dksX1_order_6 0 rfl rfl)
theorem dX1_order_141 : decode cX1_order 141 = .ok (.getfield 33, 3) := dk_180 0 33 (dk_at dksX1_order_6 1 rfl rfl)
theorem dX1_order_144 : decode cX1_order 144 = .ok (.invokevirtual 121, 3) := dk_182 0 121 (dk_at dksX1_order_6 4 rfl rfl)
theorem dX1_order_147 : decode cX1_order 147 = .ok (.if_icmp .ge 54, 3) := dk_162 0 54 (dk_at dksX1_order_6 7 rfl rfl)
theorem dX1_order_150 : decode cX1_order 150 = .ok (.iload 8, 2) := dk_21 8 (dk_at dksX1_order_6 10 rfl rfl)
theorem dX1_order_152 : decode cX1_order 152 = .ok (.ifCond .eq 40, 3) := dk_153 0 40 (dk_at dksX1_order_6 12 rfl rfl)
theorem dX1_order_155 : decode cX1_order 155 = .ok (.aload_n 0, 1) := dk_42 (dk_at dksX1_order_6 15 rfl rfl)
theorem dX1_order_156 : decode cX1_order 156 = .ok (.getfield 33, 3) := dk_180 0 33 (dk_at dksX1_order_6 16 rfl rfl)
theorem dX1_order_159 : decode cX1_order 159 = .ok (.iload 9, 2) := dk_21 9 (dk_at dksX1_order_6 19 rfl rfl)
theorem dX1_order_161 : decode cX1_order 161 = .ok (.invokevirtual 144, 3) := dk_182 0 144 (dk_at dksX1_order_6 21 rfl rfl)
theorem dX1_order_164 : decode cX1_order 164 = .ok (.checkcast 98, 3) := dk_192 0 98 (dk_at dksX1_order_7 0 rfl rfl)
theorem dX1_order_167 : decode cX1_order 167 = .ok (.getfield 250, 3) := dk_180 0 250 (dk_at dksX1_order_7 3 rfl rfl)
theorem dX1_order_170 : decode cX1_order 170 = .ok (.iload_n 1, 1) := dk_27 (dk_at dksX1_order_7 6 rfl rfl)
theorem dX1_order_171 : decode cX1_order 171 = .ok (.if_icmp .ne 17, 3) := dk_160 0 17 (dk_at dksX1_order_7 7 rfl rfl)
theorem dX1_order_174 : decode cX1_order 174 = .ok (.aload_n 0, 1) := dk_42 (dk_at dksX1_order_7 10 rfl rfl)
theorem dX1_order_175 : decode cX1_order 175 = .ok (.iload 7, 2) := dk_21 7 (dk_at dksX1_order_7 11 rfl rfl)
theorem dX1_order_177 : decode cX1_order 177 = .ok (.iload 9, 2) := dk_21 9 (dk_at dksX1_order_7 13 rfl rfl)
theorem dX1_order_179 : decode cX1_order 179 = .ok (.iload_n 2, 1) := dk_28 (dk_at dksX1_order_7 15 rfl rfl)
theorem dX1_order_180 : decode cX1_order 180 = .ok (.iload_n 3, 1) := dk_29 (dk_at dksX1_order_7 16 rfl rfl)
theorem dX1_order_181 : decode cX1_order 181 = .ok (.invokevirtual 338, 3) := dk_182 1 82 (dk_at dksX1_order_7 17 rfl rfl)
theorem dX1_order_184 : decode cX1_order 184 = .ok (.iconst 1, 1) := dk_4 (dk_at dksX1_order_7 20 rfl rfl)
theorem dX1_order_185 : decode cX1_order 185 = .ok (.if_icmp .eq 7, 3) := dk_159 0 7 (dk_at dksX1_order_7 21 rfl rfl)
theorem dX1_order_188 : decode cX1_order 188 = .ok (.iconst 1, 1) := dk_4 (dk_at dksX1_order_8 0 rfl rfl)
theorem dX1_order_189 : decode cX1_order 189 = .ok (.goto 4, 3) := dk_167 0 4 (dk_at dksX1_order_8 1 rfl rfl)
theorem dX1_order_192 : decode cX1_order 192 = .ok (.iconst 0, 1) := dk_3 (dk_at dksX1_order_8 4 rfl rfl)
theorem dX1_order_193 : decode cX1_order 193 = .ok (.istore 8, 2) := dk_54 8 (dk_at dksX1_order_8 5 rfl rfl)
theorem dX1_order_195 : decode cX1_order 195 = .ok (.iinc 9 1, 3) := dk_132 9 1 (dk_at dksX1_order_8 7 rfl rfl)
theorem dX1_order_198 : decode cX1_order 198 = .ok (.goto (-60), 3) := dk_167 255 196 (dk_at dksX1_order_8 10 rfl rfl)
theorem dX1_order_201 : decode cX1_order 201 = .ok (.iload 8, 2) := dk_21 8 (dk_at dksX1_order_8 13 rfl rfl)
theorem dX1_order_203 : decode cX1_order 203 = .ok (.ifCond .eq 12, 3) := dk_153 0 12 (dk_at dksX1_order_8 15 rfl rfl)
theorem dX1_order_206 : decode cX1_order 206 = .ok (.iload 6, 2) := dk_21 6 (dk_at dksX1_order_8 18 rfl rfl)
theorem dX1_order_208 : decode cX1_order 208 = .ok (.iconst 1, 1) := dk_4 (dk_at dksX1_order_8 20 rfl rfl)
theorem dX1_order_209 : decode cX1_order 209 = .ok (.iload 7, 2) := dk_21 7 (dk_at dksX1_order_8 21 rfl rfl)
theorem dX1_order_211 : decode cX1_order 211 = .ok (.ishl, 1) := dk_120 (dk_at dksX1_order_8 23 rfl rfl)
theorem dX1_order_212 : decode cX1_order 212 = .ok (.ior, 1) := dk_128 (dk_at dksX1_order_9 0 rfl rfl)
theorem dX1_order_213 : decode cX1_order 213 = .ok (.istore 6, 2) := dk_54 6 (dk_at dksX1_order_9 1 rfl rfl)
theorem dX1_order_215 : decode cX1_order 215 = .ok (.iinc 7 1, 3) := dk_132 7 1 (dk_at dksX1_order_9 3 rfl rfl)
theorem dX1_order_218 : decode cX1_order 218 = .ok (.goto (-152), 3) := dk_167 255 104 (dk_at dksX1_order_9 6 rfl rfl)
theorem dX1_order_221 : decode cX1_order 221 = .ok (.iload 5, 2) := dk_21 5 (dk_at dksX1_order_9 9 rfl rfl)
theorem dX1_order_223 : decode cX1_order 223 = .ok (.ifCond .ne 7, 3) := dk_154 0 7 (dk_at dksX1_order_9 11 rfl rfl)
theorem dX1_order_226 : decode cX1_order 226 = .ok (.iconst (-1), 1) := dk_2 (dk_at dksX1_order_9 14 rfl rfl)
theorem dX1_order_227 : decode cX1_order 227 = .ok (.goto 15, 3) := dk_167 0 15 (dk_at dksX1_order_9 15 rfl rfl)
theorem dX1_order_230 : decode cX1_order 230 = .ok (.iload 4, 2) := dk_21 4 (dk_at dksX1_order_9 18 rfl rfl)
theorem dX1_order_232 : decode cX1_order 232 = .ok (.ifCond .ne 8, 3) := dk_154 0 8 (dk_at dksX1_order_9 20 rfl rfl)
theorem dX1_order_235 : decode cX1_order 235 = .ok (.iload 5, 2) := dk_21 5 (dk_at dksX1_order_10 0 rfl rfl)
theorem dX1_order_237 : decode cX1_order 237 = .ok (.goto 5, 3) := dk_167 0 5 (dk_at dksX1_order_10 2 rfl rfl)
theorem dX1_order_240 : decode cX1_order 240 = .ok (.iload 6, 2) := dk_21 6 (dk_at dksX1_order_10 5 rfl rfl)
theorem dX1_order_242 : decode cX1_order 242 = .ok (.ireturn, 1) := dk_172 (dk_at dksX1_order_10 7 rfl rfl)
abbrev cX1_row : ByteArray := prog_1_method_40_code
def yX1_row : MethodName := ⟨RX1, "row", "(IIII)I"⟩
def dkwX1_row_4 : List UInt8 := [180, 0, 90, 27, 21, 5, 79, 21, 5, 172]
abbrev dktX1_row_4 : List UInt8 := dkwX1_row_4 ++ []
def dkwX1_row_3 : List UInt8 := [21, 6, 28, 29, 21, 4, 182, 1, 86, 4, 96, 184, 1, 89, 54, 5, 132, 6, 1, 167, 255, 189, 42]
abbrev dktX1_row_3 : List UInt8 := dkwX1_row_3 ++ dktX1_row_4
def dkwX1_row_2 : List UInt8 := [180, 0, 250, 28, 160, 0, 36, 42, 21, 6, 27, 29, 21, 4, 182, 1, 82, 4, 160, 0, 22, 21, 5, 42]
abbrev dktX1_row_2 : List UInt8 := dkwX1_row_2 ++ dktX1_row_3
def dkwX1_row_1 : List UInt8 := [42, 180, 0, 33, 182, 0, 121, 162, 0, 61, 42, 180, 0, 33, 21, 6, 182, 0, 144, 192, 0, 98]
abbrev dktX1_row_1 : List UInt8 := dkwX1_row_1 ++ dktX1_row_2
def dkwX1_row_0 : List UInt8 := [42, 180, 0, 90, 27, 46, 158, 0, 10, 42, 180, 0, 90, 27, 46, 172, 4, 54, 5, 3, 54, 6, 21, 6]
abbrev dktX1_row_0 : List UInt8 := dkwX1_row_0 ++ dktX1_row_1
theorem dksX1_row_0 : cX1_row.data.toList.drop 0 = dktX1_row_0 := by decide +kernel
theorem dksX1_row_1 : cX1_row.data.toList.drop 24 = dktX1_row_1 := dk_seg dksX1_row_0 24 rfl rfl
theorem dksX1_row_2 : cX1_row.data.toList.drop 46 = dktX1_row_2 := dk_seg dksX1_row_1 22 rfl rfl
theorem dksX1_row_3 : cX1_row.data.toList.drop 70 = dktX1_row_3 := dk_seg dksX1_row_2 24 rfl rfl
theorem dksX1_row_4 : cX1_row.data.toList.drop 93 = dktX1_row_4 := dk_seg dksX1_row_3 23 rfl rfl
theorem dX1_row_0 : decode cX1_row 0 = .ok (.aload_n 0, 1) := dk_42 (dk_at dksX1_row_0 0 rfl rfl)
theorem dX1_row_1 : decode cX1_row 1 = .ok (.getfield 90, 3) := dk_180 0 90 (dk_at dksX1_row_0 1 rfl rfl)
theorem dX1_row_4 : decode cX1_row 4 = .ok (.iload_n 1, 1) := dk_27 (dk_at dksX1_row_0 4 rfl rfl)
theorem dX1_row_5 : decode cX1_row 5 = .ok (.iaload, 1) := dk_46 (dk_at dksX1_row_0 5 rfl rfl)
theorem dX1_row_6 : decode cX1_row 6 = .ok (.ifCond .le 10, 3) := dk_158 0 10 (dk_at dksX1_row_0 6 rfl rfl)
theorem dX1_row_9 : decode cX1_row 9 = .ok (.aload_n 0, 1) := dk_42 (dk_at dksX1_row_0 9 rfl rfl)
theorem dX1_row_10 : decode cX1_row 10 = .ok (.getfield 90, 3) := dk_180 0 90 (dk_at dksX1_row_0 10 rfl rfl)
theorem dX1_row_13 : decode cX1_row 13 = .ok (.iload_n 1, 1) := dk_27 (dk_at dksX1_row_0 13 rfl rfl)
theorem dX1_row_14 : decode cX1_row 14 = .ok (.iaload, 1) := dk_46 (dk_at dksX1_row_0 14 rfl rfl)
theorem dX1_row_15 : decode cX1_row 15 = .ok (.ireturn, 1) := dk_172 (dk_at dksX1_row_0 15 rfl rfl)
theorem dX1_row_16 : decode cX1_row 16 = .ok (.iconst 1, 1) := dk_4 (dk_at dksX1_row_0 16 rfl rfl)
theorem dX1_row_17 : decode cX1_row 17 = .ok (.istore 5, 2) := dk_54 5 (dk_at dksX1_row_0 17 rfl rfl)
theorem dX1_row_19 : decode cX1_row 19 = .ok (.iconst 0, 1) := dk_3 (dk_at dksX1_row_0 19 rfl rfl)
theorem dX1_row_20 : decode cX1_row 20 = .ok (.istore 6, 2) := dk_54 6 (dk_at dksX1_row_0 20 rfl rfl)
theorem dX1_row_22 : decode cX1_row 22 = .ok (.iload 6, 2) := dk_21 6 (dk_at dksX1_row_0 22 rfl rfl)
theorem dX1_row_24 : decode cX1_row 24 = .ok (.aload_n 0, 1) := dk_42 (dk_at dksX1_row_1 0 rfl rfl)
theorem dX1_row_25 : decode cX1_row 25 = .ok (.getfield 33, 3) := dk_180 0 33 (dk_at dksX1_row_1 1 rfl rfl)
theorem dX1_row_28 : decode cX1_row 28 = .ok (.invokevirtual 121, 3) := dk_182 0 121 (dk_at dksX1_row_1 4 rfl rfl)
theorem dX1_row_31 : decode cX1_row 31 = .ok (.if_icmp .ge 61, 3) := dk_162 0 61 (dk_at dksX1_row_1 7 rfl rfl)
theorem dX1_row_34 : decode cX1_row 34 = .ok (.aload_n 0, 1) := dk_42 (dk_at dksX1_row_1 10 rfl rfl)
theorem dX1_row_35 : decode cX1_row 35 = .ok (.getfield 33, 3) := dk_180 0 33 (dk_at dksX1_row_1 11 rfl rfl)
theorem dX1_row_38 : decode cX1_row 38 = .ok (.iload 6, 2) := dk_21 6 (dk_at dksX1_row_1 14 rfl rfl)
theorem dX1_row_40 : decode cX1_row 40 = .ok (.invokevirtual 144, 3) := dk_182 0 144 (dk_at dksX1_row_1 16 rfl rfl)
theorem dX1_row_43 : decode cX1_row 43 = .ok (.checkcast 98, 3) := dk_192 0 98 (dk_at dksX1_row_1 19 rfl rfl)
theorem dX1_row_46 : decode cX1_row 46 = .ok (.getfield 250, 3) := dk_180 0 250 (dk_at dksX1_row_2 0 rfl rfl)
theorem dX1_row_49 : decode cX1_row 49 = .ok (.iload_n 2, 1) := dk_28 (dk_at dksX1_row_2 3 rfl rfl)
theorem dX1_row_50 : decode cX1_row 50 = .ok (.if_icmp .ne 36, 3) := dk_160 0 36 (dk_at dksX1_row_2 4 rfl rfl)
theorem dX1_row_53 : decode cX1_row 53 = .ok (.aload_n 0, 1) := dk_42 (dk_at dksX1_row_2 7 rfl rfl)
theorem dX1_row_54 : decode cX1_row 54 = .ok (.iload 6, 2) := dk_21 6 (dk_at dksX1_row_2 8 rfl rfl)
theorem dX1_row_56 : decode cX1_row 56 = .ok (.iload_n 1, 1) := dk_27 (dk_at dksX1_row_2 10 rfl rfl)
theorem dX1_row_57 : decode cX1_row 57 = .ok (.iload_n 3, 1) := dk_29 (dk_at dksX1_row_2 11 rfl rfl)
theorem dX1_row_58 : decode cX1_row 58 = .ok (.iload 4, 2) := dk_21 4 (dk_at dksX1_row_2 12 rfl rfl)
theorem dX1_row_60 : decode cX1_row 60 = .ok (.invokevirtual 338, 3) := dk_182 1 82 (dk_at dksX1_row_2 14 rfl rfl)
theorem dX1_row_63 : decode cX1_row 63 = .ok (.iconst 1, 1) := dk_4 (dk_at dksX1_row_2 17 rfl rfl)
theorem dX1_row_64 : decode cX1_row 64 = .ok (.if_icmp .ne 22, 3) := dk_160 0 22 (dk_at dksX1_row_2 18 rfl rfl)
theorem dX1_row_67 : decode cX1_row 67 = .ok (.iload 5, 2) := dk_21 5 (dk_at dksX1_row_2 21 rfl rfl)
theorem dX1_row_69 : decode cX1_row 69 = .ok (.aload_n 0, 1) := dk_42 (dk_at dksX1_row_2 23 rfl rfl)
theorem dX1_row_70 : decode cX1_row 70 = .ok (.iload 6, 2) := dk_21 6 (dk_at dksX1_row_3 0 rfl rfl)
theorem dX1_row_72 : decode cX1_row 72 = .ok (.iload_n 2, 1) := dk_28 (dk_at dksX1_row_3 2 rfl rfl)
theorem dX1_row_73 : decode cX1_row 73 = .ok (.iload_n 3, 1) := dk_29 (dk_at dksX1_row_3 3 rfl rfl)
theorem dX1_row_74 : decode cX1_row 74 = .ok (.iload 4, 2) := dk_21 4 (dk_at dksX1_row_3 4 rfl rfl)
theorem dX1_row_76 : decode cX1_row 76 = .ok (.invokevirtual 342, 3) := dk_182 1 86 (dk_at dksX1_row_3 6 rfl rfl)
theorem dX1_row_79 : decode cX1_row 79 = .ok (.iconst 1, 1) := dk_4 (dk_at dksX1_row_3 9 rfl rfl)
theorem dX1_row_80 : decode cX1_row 80 = .ok (.iadd, 1) := dk_96 (dk_at dksX1_row_3 10 rfl rfl)
theorem dX1_row_81 : decode cX1_row 81 = .ok (.invokestatic 345, 3) := dk_184 1 89 (dk_at dksX1_row_3 11 rfl rfl)
theorem dX1_row_84 : decode cX1_row 84 = .ok (.istore 5, 2) := dk_54 5 (dk_at dksX1_row_3 14 rfl rfl)
theorem dX1_row_86 : decode cX1_row 86 = .ok (.iinc 6 1, 3) := dk_132 6 1 (dk_at dksX1_row_3 16 rfl rfl)
theorem dX1_row_89 : decode cX1_row 89 = .ok (.goto (-67), 3) := dk_167 255 189 (dk_at dksX1_row_3 19 rfl rfl)
theorem dX1_row_92 : decode cX1_row 92 = .ok (.aload_n 0, 1) := dk_42 (dk_at dksX1_row_3 22 rfl rfl)
theorem dX1_row_93 : decode cX1_row 93 = .ok (.getfield 90, 3) := dk_180 0 90 (dk_at dksX1_row_4 0 rfl rfl)
theorem dX1_row_96 : decode cX1_row 96 = .ok (.iload_n 1, 1) := dk_27 (dk_at dksX1_row_4 3 rfl rfl)
theorem dX1_row_97 : decode cX1_row 97 = .ok (.iload 5, 2) := dk_21 5 (dk_at dksX1_row_4 4 rfl rfl)
theorem dX1_row_99 : decode cX1_row 99 = .ok (.iastore, 1) := dk_79 (dk_at dksX1_row_4 6 rfl rfl)
theorem dX1_row_100 : decode cX1_row 100 = .ok (.iload 5, 2) := dk_21 5 (dk_at dksX1_row_4 7 rfl rfl)
theorem dX1_row_102 : decode cX1_row 102 = .ok (.ireturn, 1) := dk_172 (dk_at dksX1_row_4 9 rfl rfl)
abbrev cX1_enough : ByteArray := prog_1_method_42_code
def yX1_enough : MethodName := ⟨RX1, "enough", "(IIII)I"⟩
def dkwX1_enough_3 : List UInt8 := [167, 255, 225, 2, 172]
abbrev dktX1_enough_3 : List UInt8 := dkwX1_enough_3 ++ []
def dkwX1_enough_2 : List UInt8 := [21, 5, 5, 16, 100, 42, 180, 0, 19, 104, 21, 6, 108, 104, 164, 0, 6, 21, 6, 172, 132, 6, 1]
abbrev dktX1_enough_2 : List UInt8 := dkwX1_enough_2 ++ dktX1_enough_3
def dkwX1_enough_1 : List UInt8 := [29, 21, 4, 182, 1, 73, 100, 184, 1, 77, 54, 5, 4, 54, 6, 21, 6, 17, 3, 231, 163, 0, 29]
abbrev dktX1_enough_1 : List UInt8 := dkwX1_enough_1 ++ dktX1_enough_2
def dkwX1_enough_0 : List UInt8 := [42, 27, 28, 29, 21, 4, 182, 1, 82, 156, 0, 5, 2, 172, 42, 27, 29, 21, 4, 182, 1, 73, 42, 28]
abbrev dktX1_enough_0 : List UInt8 := dkwX1_enough_0 ++ dktX1_enough_1
theorem dksX1_enough_0 : cX1_enough.data.toList.drop 0 = dktX1_enough_0 := by decide +kernel
theorem dksX1_enough_1 : cX1_enough.data.toList.drop 24 = dktX1_enough_1 := dk_seg dksX1_enough_0 24 rfl rfl
theorem dksX1_enough_2 : cX1_enough.data.toList.drop 47 = dktX1_enough_2 := dk_seg dksX1_enough_1 23 rfl rfl
theorem dksX1_enough_3 : cX1_enough.data.toList.drop 70 = dktX1_enough_3 := dk_seg dksX1_enough_2 23 rfl rfl
theorem dX1_enough_0 : decode cX1_enough 0 = .ok (.aload_n 0, 1) := dk_42 (dk_at dksX1_enough_0 0 rfl rfl)
theorem dX1_enough_1 : decode cX1_enough 1 = .ok (.iload_n 1, 1) := dk_27 (dk_at dksX1_enough_0 1 rfl rfl)
theorem dX1_enough_2 : decode cX1_enough 2 = .ok (.iload_n 2, 1) := dk_28 (dk_at dksX1_enough_0 2 rfl rfl)
theorem dX1_enough_3 : decode cX1_enough 3 = .ok (.iload_n 3, 1) := dk_29 (dk_at dksX1_enough_0 3 rfl rfl)
theorem dX1_enough_4 : decode cX1_enough 4 = .ok (.iload 4, 2) := dk_21 4 (dk_at dksX1_enough_0 4 rfl rfl)
theorem dX1_enough_6 : decode cX1_enough 6 = .ok (.invokevirtual 338, 3) := dk_182 1 82 (dk_at dksX1_enough_0 6 rfl rfl)
theorem dX1_enough_9 : decode cX1_enough 9 = .ok (.ifCond .ge 5, 3) := dk_156 0 5 (dk_at dksX1_enough_0 9 rfl rfl)
theorem dX1_enough_12 : decode cX1_enough 12 = .ok (.iconst (-1), 1) := dk_2 (dk_at dksX1_enough_0 12 rfl rfl)
theorem dX1_enough_13 : decode cX1_enough 13 = .ok (.ireturn, 1) := dk_172 (dk_at dksX1_enough_0 13 rfl rfl)
theorem dX1_enough_14 : decode cX1_enough 14 = .ok (.aload_n 0, 1) := dk_42 (dk_at dksX1_enough_0 14 rfl rfl)
theorem dX1_enough_15 : decode cX1_enough 15 = .ok (.iload_n 1, 1) := dk_27 (dk_at dksX1_enough_0 15 rfl rfl)
theorem dX1_enough_16 : decode cX1_enough 16 = .ok (.iload_n 3, 1) := dk_29 (dk_at dksX1_enough_0 16 rfl rfl)
theorem dX1_enough_17 : decode cX1_enough 17 = .ok (.iload 4, 2) := dk_21 4 (dk_at dksX1_enough_0 17 rfl rfl)
theorem dX1_enough_19 : decode cX1_enough 19 = .ok (.invokevirtual 329, 3) := dk_182 1 73 (dk_at dksX1_enough_0 19 rfl rfl)
theorem dX1_enough_22 : decode cX1_enough 22 = .ok (.aload_n 0, 1) := dk_42 (dk_at dksX1_enough_0 22 rfl rfl)
theorem dX1_enough_23 : decode cX1_enough 23 = .ok (.iload_n 2, 1) := dk_28 (dk_at dksX1_enough_0 23 rfl rfl)
theorem dX1_enough_24 : decode cX1_enough 24 = .ok (.iload_n 3, 1) := dk_29 (dk_at dksX1_enough_1 0 rfl rfl)
theorem dX1_enough_25 : decode cX1_enough 25 = .ok (.iload 4, 2) := dk_21 4 (dk_at dksX1_enough_1 1 rfl rfl)
theorem dX1_enough_27 : decode cX1_enough 27 = .ok (.invokevirtual 329, 3) := dk_182 1 73 (dk_at dksX1_enough_1 3 rfl rfl)
theorem dX1_enough_30 : decode cX1_enough 30 = .ok (.isub, 1) := dk_100 (dk_at dksX1_enough_1 6 rfl rfl)
theorem dX1_enough_31 : decode cX1_enough 31 = .ok (.invokestatic 333, 3) := dk_184 1 77 (dk_at dksX1_enough_1 7 rfl rfl)
theorem dX1_enough_34 : decode cX1_enough 34 = .ok (.istore 5, 2) := dk_54 5 (dk_at dksX1_enough_1 10 rfl rfl)
theorem dX1_enough_36 : decode cX1_enough 36 = .ok (.iconst 1, 1) := dk_4 (dk_at dksX1_enough_1 12 rfl rfl)
theorem dX1_enough_37 : decode cX1_enough 37 = .ok (.istore 6, 2) := dk_54 6 (dk_at dksX1_enough_1 13 rfl rfl)
theorem dX1_enough_39 : decode cX1_enough 39 = .ok (.iload 6, 2) := dk_21 6 (dk_at dksX1_enough_1 15 rfl rfl)
theorem dX1_enough_41 : decode cX1_enough 41 = .ok (.sipush 999, 3) := dk_17 3 231 (dk_at dksX1_enough_1 17 rfl rfl)
theorem dX1_enough_44 : decode cX1_enough 44 = .ok (.if_icmp .gt 29, 3) := dk_163 0 29 (dk_at dksX1_enough_1 20 rfl rfl)
theorem dX1_enough_47 : decode cX1_enough 47 = .ok (.iload 5, 2) := dk_21 5 (dk_at dksX1_enough_2 0 rfl rfl)
theorem dX1_enough_49 : decode cX1_enough 49 = .ok (.iconst 2, 1) := dk_5 (dk_at dksX1_enough_2 2 rfl rfl)
theorem dX1_enough_50 : decode cX1_enough 50 = .ok (.bipush 100, 2) := dk_16 100 (dk_at dksX1_enough_2 3 rfl rfl)
theorem dX1_enough_52 : decode cX1_enough 52 = .ok (.aload_n 0, 1) := dk_42 (dk_at dksX1_enough_2 5 rfl rfl)
theorem dX1_enough_53 : decode cX1_enough 53 = .ok (.getfield 19, 3) := dk_180 0 19 (dk_at dksX1_enough_2 6 rfl rfl)
theorem dX1_enough_56 : decode cX1_enough 56 = .ok (.imul, 1) := dk_104 (dk_at dksX1_enough_2 9 rfl rfl)
theorem dX1_enough_57 : decode cX1_enough 57 = .ok (.iload 6, 2) := dk_21 6 (dk_at dksX1_enough_2 10 rfl rfl)
theorem dX1_enough_59 : decode cX1_enough 59 = .ok (.idiv, 1) := dk_108 (dk_at dksX1_enough_2 12 rfl rfl)
theorem dX1_enough_60 : decode cX1_enough 60 = .ok (.imul, 1) := dk_104 (dk_at dksX1_enough_2 13 rfl rfl)
theorem dX1_enough_61 : decode cX1_enough 61 = .ok (.if_icmp .le 6, 3) := dk_164 0 6 (dk_at dksX1_enough_2 14 rfl rfl)
theorem dX1_enough_64 : decode cX1_enough 64 = .ok (.iload 6, 2) := dk_21 6 (dk_at dksX1_enough_2 17 rfl rfl)
theorem dX1_enough_66 : decode cX1_enough 66 = .ok (.ireturn, 1) := dk_172 (dk_at dksX1_enough_2 19 rfl rfl)
theorem dX1_enough_67 : decode cX1_enough 67 = .ok (.iinc 6 1, 3) := dk_132 6 1 (dk_at dksX1_enough_2 20 rfl rfl)
theorem dX1_enough_70 : decode cX1_enough 70 = .ok (.goto (-31), 3) := dk_167 255 225 (dk_at dksX1_enough_3 0 rfl rfl)
theorem dX1_enough_73 : decode cX1_enough 73 = .ok (.iconst (-1), 1) := dk_2 (dk_at dksX1_enough_3 3 rfl rfl)
theorem dX1_enough_74 : decode cX1_enough 74 = .ok (.ireturn, 1) := dk_172 (dk_at dksX1_enough_3 4 rfl rfl)
abbrev cX1_may : ByteArray := prog_1_method_44_code
def yX1_may : MethodName := ⟨RX1, "may", "(III)I"⟩
def dkwX1_may_2 : List UInt8 := [153, 0, 7, 4, 167, 0, 4, 3, 172]
abbrev dktX1_may_2 : List UInt8 := dkwX1_may_2 ++ []
def dkwX1_may_1 : List UInt8 := [172, 42, 182, 1, 37, 42, 27, 42, 180, 0, 33, 28, 182, 0, 144, 192, 0, 98, 29, 182, 1, 101]
abbrev dktX1_may_1 : List UInt8 := dkwX1_may_1 ++ dktX1_may_2
def dkwX1_may_0 : List UInt8 := [42, 27, 182, 0, 141, 153, 0, 18, 42, 28, 182, 0, 137, 153, 0, 10, 29, 184, 0, 178, 154, 0, 5, 2]
abbrev dktX1_may_0 : List UInt8 := dkwX1_may_0 ++ dktX1_may_1
theorem dksX1_may_0 : cX1_may.data.toList.drop 0 = dktX1_may_0 := by decide +kernel
theorem dksX1_may_1 : cX1_may.data.toList.drop 24 = dktX1_may_1 := dk_seg dksX1_may_0 24 rfl rfl
theorem dksX1_may_2 : cX1_may.data.toList.drop 46 = dktX1_may_2 := dk_seg dksX1_may_1 22 rfl rfl
theorem dX1_may_0 : decode cX1_may 0 = .ok (.aload_n 0, 1) := dk_42 (dk_at dksX1_may_0 0 rfl rfl)
theorem dX1_may_1 : decode cX1_may 1 = .ok (.iload_n 1, 1) := dk_27 (dk_at dksX1_may_0 1 rfl rfl)
theorem dX1_may_2 : decode cX1_may 2 = .ok (.invokevirtual 141, 3) := dk_182 0 141 (dk_at dksX1_may_0 2 rfl rfl)
theorem dX1_may_5 : decode cX1_may 5 = .ok (.ifCond .eq 18, 3) := dk_153 0 18 (dk_at dksX1_may_0 5 rfl rfl)
theorem dX1_may_8 : decode cX1_may 8 = .ok (.aload_n 0, 1) := dk_42 (dk_at dksX1_may_0 8 rfl rfl)
theorem dX1_may_9 : decode cX1_may 9 = .ok (.iload_n 2, 1) := dk_28 (dk_at dksX1_may_0 9 rfl rfl)
theorem dX1_may_10 : decode cX1_may 10 = .ok (.invokevirtual 137, 3) := dk_182 0 137 (dk_at dksX1_may_0 10 rfl rfl)
theorem dX1_may_13 : decode cX1_may 13 = .ok (.ifCond .eq 10, 3) := dk_153 0 10 (dk_at dksX1_may_0 13 rfl rfl)
theorem dX1_may_16 : decode cX1_may 16 = .ok (.iload_n 3, 1) := dk_29 (dk_at dksX1_may_0 16 rfl rfl)
theorem dX1_may_17 : decode cX1_may 17 = .ok (.invokestatic 178, 3) := dk_184 0 178 (dk_at dksX1_may_0 17 rfl rfl)
theorem dX1_may_20 : decode cX1_may 20 = .ok (.ifCond .ne 5, 3) := dk_154 0 5 (dk_at dksX1_may_0 20 rfl rfl)
theorem dX1_may_23 : decode cX1_may 23 = .ok (.iconst (-1), 1) := dk_2 (dk_at dksX1_may_0 23 rfl rfl)
theorem dX1_may_24 : decode cX1_may 24 = .ok (.ireturn, 1) := dk_172 (dk_at dksX1_may_1 0 rfl rfl)
theorem dX1_may_25 : decode cX1_may 25 = .ok (.aload_n 0, 1) := dk_42 (dk_at dksX1_may_1 1 rfl rfl)
theorem dX1_may_26 : decode cX1_may 26 = .ok (.invokevirtual 293, 3) := dk_182 1 37 (dk_at dksX1_may_1 2 rfl rfl)
theorem dX1_may_29 : decode cX1_may 29 = .ok (.aload_n 0, 1) := dk_42 (dk_at dksX1_may_1 5 rfl rfl)
theorem dX1_may_30 : decode cX1_may 30 = .ok (.iload_n 1, 1) := dk_27 (dk_at dksX1_may_1 6 rfl rfl)
theorem dX1_may_31 : decode cX1_may 31 = .ok (.aload_n 0, 1) := dk_42 (dk_at dksX1_may_1 7 rfl rfl)
theorem dX1_may_32 : decode cX1_may 32 = .ok (.getfield 33, 3) := dk_180 0 33 (dk_at dksX1_may_1 8 rfl rfl)
theorem dX1_may_35 : decode cX1_may 35 = .ok (.iload_n 2, 1) := dk_28 (dk_at dksX1_may_1 11 rfl rfl)
theorem dX1_may_36 : decode cX1_may 36 = .ok (.invokevirtual 144, 3) := dk_182 0 144 (dk_at dksX1_may_1 12 rfl rfl)
theorem dX1_may_39 : decode cX1_may 39 = .ok (.checkcast 98, 3) := dk_192 0 98 (dk_at dksX1_may_1 15 rfl rfl)
theorem dX1_may_42 : decode cX1_may 42 = .ok (.iload_n 3, 1) := dk_29 (dk_at dksX1_may_1 18 rfl rfl)
theorem dX1_may_43 : decode cX1_may 43 = .ok (.invokevirtual 357, 3) := dk_182 1 101 (dk_at dksX1_may_1 19 rfl rfl)
theorem dX1_may_46 : decode cX1_may 46 = .ok (.ifCond .eq 7, 3) := dk_153 0 7 (dk_at dksX1_may_2 0 rfl rfl)
theorem dX1_may_49 : decode cX1_may 49 = .ok (.iconst 1, 1) := dk_4 (dk_at dksX1_may_2 3 rfl rfl)
theorem dX1_may_50 : decode cX1_may 50 = .ok (.goto 4, 3) := dk_167 0 4 (dk_at dksX1_may_2 4 rfl rfl)
theorem dX1_may_53 : decode cX1_may 53 = .ok (.iconst 0, 1) := dk_3 (dk_at dksX1_may_2 7 rfl rfl)
theorem dX1_may_54 : decode cX1_may 54 = .ok (.ireturn, 1) := dk_172 (dk_at dksX1_may_2 8 rfl rfl)
abbrev cX1_mayGo : ByteArray := prog_1_method_43_code
def yX1_mayGo : MethodName := ⟨RX1, "mayGo", "(ILSecretBuyers$Shop;I)Z"⟩
def dkwX1_mayGo_5 : List UInt8 := [7, 108, 162, 0, 5, 3, 172, 132, 4, 1, 167, 255, 160, 4, 172]
abbrev dktX1_mayGo_5 : List UInt8 := dkwX1_mayGo_5 ++ []
def dkwX1_mayGo_4 : List UInt8 := [161, 0, 29, 25, 5, 180, 0, 160, 180, 0, 250, 44, 180, 0, 250, 160, 0, 16, 21, 6, 42, 180, 0, 22]
abbrev dktX1_mayGo_4 : List UInt8 := dkwX1_mayGo_4 ++ dktX1_mayGo_5
def dkwX1_mayGo_3 : List UInt8 := [180, 0, 148, 27, 160, 0, 49, 25, 5, 180, 0, 160, 44, 166, 0, 12, 21, 6, 42, 180, 0, 22]
abbrev dktX1_mayGo_3 : List UInt8 := dkwX1_mayGo_3 ++ dktX1_mayGo_4
def dkwX1_mayGo_2 : List UInt8 := [21, 4, 182, 0, 144, 192, 0, 81, 58, 5, 25, 5, 180, 0, 151, 29, 100, 184, 1, 77, 54, 6, 25, 5]
abbrev dktX1_mayGo_2 : List UInt8 := dkwX1_mayGo_2 ++ dktX1_mayGo_3
def dkwX1_mayGo_1 : List UInt8 := [164, 0, 5, 3, 172, 3, 54, 4, 21, 4, 42, 180, 0, 71, 182, 0, 121, 162, 0, 90, 42, 180, 0, 71]
abbrev dktX1_mayGo_1 : List UInt8 := dkwX1_mayGo_1 ++ dktX1_mayGo_2
def dkwX1_mayGo_0 : List UInt8 := [42, 180, 0, 37, 27, 182, 0, 144, 192, 0, 125, 44, 180, 1, 93, 182, 1, 97, 42, 180, 0, 25]
abbrev dktX1_mayGo_0 : List UInt8 := dkwX1_mayGo_0 ++ dktX1_mayGo_1
theorem dksX1_mayGo_0 : cX1_mayGo.data.toList.drop 0 = dktX1_mayGo_0 := by decide +kernel
theorem dksX1_mayGo_1 : cX1_mayGo.data.toList.drop 22 = dktX1_mayGo_1 := dk_seg dksX1_mayGo_0 22 rfl rfl
theorem dksX1_mayGo_2 : cX1_mayGo.data.toList.drop 46 = dktX1_mayGo_2 := dk_seg dksX1_mayGo_1 24 rfl rfl
theorem dksX1_mayGo_3 : cX1_mayGo.data.toList.drop 70 = dktX1_mayGo_3 := dk_seg dksX1_mayGo_2 24 rfl rfl
theorem dksX1_mayGo_4 : cX1_mayGo.data.toList.drop 92 = dktX1_mayGo_4 := dk_seg dksX1_mayGo_3 22 rfl rfl
theorem dksX1_mayGo_5 : cX1_mayGo.data.toList.drop 116 = dktX1_mayGo_5 := dk_seg dksX1_mayGo_4 24 rfl rfl
theorem dX1_mayGo_0 : decode cX1_mayGo 0 = .ok (.aload_n 0, 1) := dk_42 (dk_at dksX1_mayGo_0 0 rfl rfl)
theorem dX1_mayGo_1 : decode cX1_mayGo 1 = .ok (.getfield 37, 3) := dk_180 0 37 (dk_at dksX1_mayGo_0 1 rfl rfl)
theorem dX1_mayGo_4 : decode cX1_mayGo 4 = .ok (.iload_n 1, 1) := dk_27 (dk_at dksX1_mayGo_0 4 rfl rfl)
theorem dX1_mayGo_5 : decode cX1_mayGo 5 = .ok (.invokevirtual 144, 3) := dk_182 0 144 (dk_at dksX1_mayGo_0 5 rfl rfl)
theorem dX1_mayGo_8 : decode cX1_mayGo 8 = .ok (.checkcast 125, 3) := dk_192 0 125 (dk_at dksX1_mayGo_0 8 rfl rfl)
theorem dX1_mayGo_11 : decode cX1_mayGo 11 = .ok (.aload_n 2, 1) := dk_44 (dk_at dksX1_mayGo_0 11 rfl rfl)
theorem dX1_mayGo_12 : decode cX1_mayGo 12 = .ok (.getfield 349, 3) := dk_180 1 93 (dk_at dksX1_mayGo_0 12 rfl rfl)
theorem dX1_mayGo_15 : decode cX1_mayGo 15 = .ok (.invokevirtual 353, 3) := dk_182 1 97 (dk_at dksX1_mayGo_0 15 rfl rfl)
theorem dX1_mayGo_18 : decode cX1_mayGo 18 = .ok (.aload_n 0, 1) := dk_42 (dk_at dksX1_mayGo_0 18 rfl rfl)
theorem dX1_mayGo_19 : decode cX1_mayGo 19 = .ok (.getfield 25, 3) := dk_180 0 25 (dk_at dksX1_mayGo_0 19 rfl rfl)
theorem dX1_mayGo_22 : decode cX1_mayGo 22 = .ok (.if_icmp .le 5, 3) := dk_164 0 5 (dk_at dksX1_mayGo_1 0 rfl rfl)
theorem dX1_mayGo_25 : decode cX1_mayGo 25 = .ok (.iconst 0, 1) := dk_3 (dk_at dksX1_mayGo_1 3 rfl rfl)
theorem dX1_mayGo_26 : decode cX1_mayGo 26 = .ok (.ireturn, 1) := dk_172 (dk_at dksX1_mayGo_1 4 rfl rfl)
theorem dX1_mayGo_27 : decode cX1_mayGo 27 = .ok (.iconst 0, 1) := dk_3 (dk_at dksX1_mayGo_1 5 rfl rfl)
theorem dX1_mayGo_28 : decode cX1_mayGo 28 = .ok (.istore 4, 2) := dk_54 4 (dk_at dksX1_mayGo_1 6 rfl rfl)
theorem dX1_mayGo_30 : decode cX1_mayGo 30 = .ok (.iload 4, 2) := dk_21 4 (dk_at dksX1_mayGo_1 8 rfl rfl)
theorem dX1_mayGo_32 : decode cX1_mayGo 32 = .ok (.aload_n 0, 1) := dk_42 (dk_at dksX1_mayGo_1 10 rfl rfl)
theorem dX1_mayGo_33 : decode cX1_mayGo 33 = .ok (.getfield 71, 3) := dk_180 0 71 (dk_at dksX1_mayGo_1 11 rfl rfl)
theorem dX1_mayGo_36 : decode cX1_mayGo 36 = .ok (.invokevirtual 121, 3) := dk_182 0 121 (dk_at dksX1_mayGo_1 14 rfl rfl)
theorem dX1_mayGo_39 : decode cX1_mayGo 39 = .ok (.if_icmp .ge 90, 3) := dk_162 0 90 (dk_at dksX1_mayGo_1 17 rfl rfl)
theorem dX1_mayGo_42 : decode cX1_mayGo 42 = .ok (.aload_n 0, 1) := dk_42 (dk_at dksX1_mayGo_1 20 rfl rfl)
theorem dX1_mayGo_43 : decode cX1_mayGo 43 = .ok (.getfield 71, 3) := dk_180 0 71 (dk_at dksX1_mayGo_1 21 rfl rfl)
theorem dX1_mayGo_46 : decode cX1_mayGo 46 = .ok (.iload 4, 2) := dk_21 4 (dk_at dksX1_mayGo_2 0 rfl rfl)
theorem dX1_mayGo_48 : decode cX1_mayGo 48 = .ok (.invokevirtual 144, 3) := dk_182 0 144 (dk_at dksX1_mayGo_2 2 rfl rfl)
theorem dX1_mayGo_51 : decode cX1_mayGo 51 = .ok (.checkcast 81, 3) := dk_192 0 81 (dk_at dksX1_mayGo_2 5 rfl rfl)
theorem dX1_mayGo_54 : decode cX1_mayGo 54 = .ok (.astore 5, 2) := dk_58 5 (dk_at dksX1_mayGo_2 8 rfl rfl)
theorem dX1_mayGo_56 : decode cX1_mayGo 56 = .ok (.aload 5, 2) := dk_25 5 (dk_at dksX1_mayGo_2 10 rfl rfl)
theorem dX1_mayGo_58 : decode cX1_mayGo 58 = .ok (.getfield 151, 3) := dk_180 0 151 (dk_at dksX1_mayGo_2 12 rfl rfl)
theorem dX1_mayGo_61 : decode cX1_mayGo 61 = .ok (.iload_n 3, 1) := dk_29 (dk_at dksX1_mayGo_2 15 rfl rfl)
theorem dX1_mayGo_62 : decode cX1_mayGo 62 = .ok (.isub, 1) := dk_100 (dk_at dksX1_mayGo_2 16 rfl rfl)
theorem dX1_mayGo_63 : decode cX1_mayGo 63 = .ok (.invokestatic 333, 3) := dk_184 1 77 (dk_at dksX1_mayGo_2 17 rfl rfl)
theorem dX1_mayGo_66 : decode cX1_mayGo 66 = .ok (.istore 6, 2) := dk_54 6 (dk_at dksX1_mayGo_2 20 rfl rfl)
theorem dX1_mayGo_68 : decode cX1_mayGo 68 = .ok (.aload 5, 2) := dk_25 5 (dk_at dksX1_mayGo_2 22 rfl rfl)
theorem dX1_mayGo_70 : decode cX1_mayGo 70 = .ok (.getfield 148, 3) := dk_180 0 148 (dk_at dksX1_mayGo_3 0 rfl rfl)
theorem dX1_mayGo_73 : decode cX1_mayGo 73 = .ok (.iload_n 1, 1) := dk_27 (dk_at dksX1_mayGo_3 3 rfl rfl)
theorem dX1_mayGo_74 : decode cX1_mayGo 74 = .ok (.if_icmp .ne 49, 3) := dk_160 0 49 (dk_at dksX1_mayGo_3 4 rfl rfl)
theorem dX1_mayGo_77 : decode cX1_mayGo 77 = .ok (.aload 5, 2) := dk_25 5 (dk_at dksX1_mayGo_3 7 rfl rfl)
theorem dX1_mayGo_79 : decode cX1_mayGo 79 = .ok (.getfield 160, 3) := dk_180 0 160 (dk_at dksX1_mayGo_3 9 rfl rfl)
theorem dX1_mayGo_82 : decode cX1_mayGo 82 = .ok (.aload_n 2, 1) := dk_44 (dk_at dksX1_mayGo_3 12 rfl rfl)
theorem dX1_mayGo_83 : decode cX1_mayGo 83 = .ok (.if_acmp .ne 12, 3) := dk_166 0 12 (dk_at dksX1_mayGo_3 13 rfl rfl)
theorem dX1_mayGo_86 : decode cX1_mayGo 86 = .ok (.iload 6, 2) := dk_21 6 (dk_at dksX1_mayGo_3 16 rfl rfl)
theorem dX1_mayGo_88 : decode cX1_mayGo 88 = .ok (.aload_n 0, 1) := dk_42 (dk_at dksX1_mayGo_3 18 rfl rfl)
theorem dX1_mayGo_89 : decode cX1_mayGo 89 = .ok (.getfield 22, 3) := dk_180 0 22 (dk_at dksX1_mayGo_3 19 rfl rfl)
theorem dX1_mayGo_92 : decode cX1_mayGo 92 = .ok (.if_icmp .lt 29, 3) := dk_161 0 29 (dk_at dksX1_mayGo_4 0 rfl rfl)
theorem dX1_mayGo_95 : decode cX1_mayGo 95 = .ok (.aload 5, 2) := dk_25 5 (dk_at dksX1_mayGo_4 3 rfl rfl)
theorem dX1_mayGo_97 : decode cX1_mayGo 97 = .ok (.getfield 160, 3) := dk_180 0 160 (dk_at dksX1_mayGo_4 5 rfl rfl)
theorem dX1_mayGo_100 : decode cX1_mayGo 100 = .ok (.getfield 250, 3) := dk_180 0 250 (dk_at dksX1_mayGo_4 8 rfl rfl)
theorem dX1_mayGo_103 : decode cX1_mayGo 103 = .ok (.aload_n 2, 1) := dk_44 (dk_at dksX1_mayGo_4 11 rfl rfl)
theorem dX1_mayGo_104 : decode cX1_mayGo 104 = .ok (.getfield 250, 3) := dk_180 0 250 (dk_at dksX1_mayGo_4 12 rfl rfl)
theorem dX1_mayGo_107 : decode cX1_mayGo 107 = .ok (.if_icmp .ne 16, 3) := dk_160 0 16 (dk_at dksX1_mayGo_4 15 rfl rfl)
theorem dX1_mayGo_110 : decode cX1_mayGo 110 = .ok (.iload 6, 2) := dk_21 6 (dk_at dksX1_mayGo_4 18 rfl rfl)
theorem dX1_mayGo_112 : decode cX1_mayGo 112 = .ok (.aload_n 0, 1) := dk_42 (dk_at dksX1_mayGo_4 20 rfl rfl)
theorem dX1_mayGo_113 : decode cX1_mayGo 113 = .ok (.getfield 22, 3) := dk_180 0 22 (dk_at dksX1_mayGo_4 21 rfl rfl)
theorem dX1_mayGo_116 : decode cX1_mayGo 116 = .ok (.iconst 4, 1) := dk_7 (dk_at dksX1_mayGo_5 0 rfl rfl)
theorem dX1_mayGo_117 : decode cX1_mayGo 117 = .ok (.idiv, 1) := dk_108 (dk_at dksX1_mayGo_5 1 rfl rfl)
theorem dX1_mayGo_118 : decode cX1_mayGo 118 = .ok (.if_icmp .ge 5, 3) := dk_162 0 5 (dk_at dksX1_mayGo_5 2 rfl rfl)
theorem dX1_mayGo_121 : decode cX1_mayGo 121 = .ok (.iconst 0, 1) := dk_3 (dk_at dksX1_mayGo_5 5 rfl rfl)
theorem dX1_mayGo_122 : decode cX1_mayGo 122 = .ok (.ireturn, 1) := dk_172 (dk_at dksX1_mayGo_5 6 rfl rfl)
theorem dX1_mayGo_123 : decode cX1_mayGo 123 = .ok (.iinc 4 1, 3) := dk_132 4 1 (dk_at dksX1_mayGo_5 7 rfl rfl)
theorem dX1_mayGo_126 : decode cX1_mayGo 126 = .ok (.goto (-96), 3) := dk_167 255 160 (dk_at dksX1_mayGo_5 10 rfl rfl)
theorem dX1_mayGo_129 : decode cX1_mayGo 129 = .ok (.iconst 1, 1) := dk_4 (dk_at dksX1_mayGo_5 13 rfl rfl)
theorem dX1_mayGo_130 : decode cX1_mayGo 130 = .ok (.ireturn, 1) := dk_172 (dk_at dksX1_mayGo_5 14 rfl rfl)
abbrev cX1_given : ByteArray := prog_1_method_46_code
def yX1_given : MethodName := ⟨RX1, "given", "(III)I"⟩
def dkwX1_given_21 : List UInt8 := [180, 0, 104, 21, 8, 46, 96, 54, 6, 132, 7, 1, 167, 255, 184, 2, 172]
abbrev dktX1_given_21 : List UInt8 := dkwX1_given_21 ++ []
def dkwX1_given_20 : List UInt8 := [167, 255, 229, 42, 180, 0, 100, 21, 7, 50, 180, 1, 68, 29, 160, 0, 6, 21, 8, 172, 21, 6, 42]
abbrev dktX1_given_20 : List UInt8 := dkwX1_given_20 ++ dktX1_given_21
def dkwX1_given_19 : List UInt8 := [21, 8, 28, 182, 1, 109, 42, 180, 0, 95, 21, 7, 50, 21, 6, 46, 159, 0, 9, 132, 8, 1]
abbrev dktX1_given_19 : List UInt8 := dkwX1_given_19 ++ dktX1_given_20
def dkwX1_given_18 : List UInt8 := [46, 172, 3, 54, 6, 3, 54, 7, 21, 7, 21, 4, 162, 0, 71, 3, 54, 8, 42, 21, 7, 21, 6]
abbrev dktX1_given_18 : List UInt8 := dkwX1_given_18 ++ dktX1_given_19
def dkwX1_given_17 : List UInt8 := [50, 3, 46, 19, 1, 105, 161, 0, 5, 2, 172, 29, 16, 20, 160, 0, 12, 42, 180, 0, 95, 3, 50, 3]
abbrev dktX1_given_17 : List UInt8 := dkwX1_given_17 ++ dktX1_given_18
def dkwX1_given_16 : List UInt8 := [79, 132, 9, 1, 167, 255, 145, 132, 8, 1, 167, 255, 116, 132, 6, 255, 167, 255, 56, 42, 180, 0, 95, 3]
abbrev dktX1_given_16 : List UInt8 := dkwX1_given_16 ++ dktX1_given_17
def dkwX1_given_15 : List UInt8 := [42, 180, 0, 95, 21, 6, 4, 96, 50, 21, 8, 42, 180, 0, 104, 21, 9, 46, 96, 46, 96, 184, 1, 106]
abbrev dktX1_given_15 : List UInt8 := dkwX1_given_15 ++ dktX1_given_16
def dkwX1_given_14 : List UInt8 := [180, 0, 37, 21, 9, 182, 0, 144, 192, 0, 125, 42, 180, 0, 100, 21, 6, 50, 180, 1, 93, 182, 1, 97]
abbrev dktX1_given_14 : List UInt8 := dkwX1_given_14 ++ dktX1_given_15
def dkwX1_given_13 : List UInt8 := [167, 0, 72, 42, 180, 0, 95, 21, 6, 50, 21, 8, 42, 180, 0, 95, 21, 6, 50, 21, 8, 46, 42]
abbrev dktX1_given_13 : List UInt8 := dkwX1_given_13 ++ dktX1_given_14
def dkwX1_given_12 : List UInt8 := [25, 7, 21, 9, 51, 153, 0, 91, 21, 8, 42, 180, 0, 104, 21, 9, 46, 108, 6, 112, 5, 160, 0, 6]
abbrev dktX1_given_12 : List UInt8 := dkwX1_given_12 ++ dktX1_given_13
def dkwX1_given_11 : List UInt8 := [21, 6, 50, 21, 8, 19, 1, 105, 79, 3, 54, 9, 21, 9, 42, 180, 0, 37, 182, 0, 121, 162, 0, 105]
abbrev dktX1_given_11 : List UInt8 := dkwX1_given_11 ++ dktX1_given_12
def dkwX1_given_10 : List UInt8 := [182, 1, 101, 84, 132, 8, 1, 167, 255, 222, 3, 54, 8, 21, 8, 21, 5, 162, 0, 139, 42, 180, 0, 95]
abbrev dktX1_given_10 : List UInt8 := dkwX1_given_10 ++ dktX1_given_11
def dkwX1_given_9 : List UInt8 := [180, 0, 37, 182, 0, 121, 162, 0, 28, 25, 7, 21, 8, 42, 21, 8, 42, 180, 0, 100, 21, 6, 50, 28]
abbrev dktX1_given_9 : List UInt8 := dkwX1_given_9 ++ dktX1_given_10
def dkwX1_given_8 : List UInt8 := [21, 4, 4, 100, 54, 6, 21, 6, 155, 0, 201, 16, 8, 188, 4, 58, 7, 3, 54, 8, 21, 8, 42]
abbrev dktX1_given_8 : List UInt8 := dkwX1_given_8 ++ dktX1_given_9
def dkwX1_given_7 : List UInt8 := [21, 6, 21, 5, 162, 0, 20, 42, 180, 0, 95, 21, 4, 50, 21, 6, 3, 79, 132, 6, 1, 167, 255, 235]
abbrev dktX1_given_7 : List UInt8 := dkwX1_given_7 ++ dktX1_given_8
def dkwX1_given_6 : List UInt8 := [79, 132, 5, 1, 167, 255, 228, 42, 180, 0, 104, 42, 180, 0, 37, 182, 0, 121, 46, 54, 5, 3, 54, 6]
abbrev dktX1_given_6 : List UInt8 := dkwX1_given_6 ++ dktX1_given_7
def dkwX1_given_5 : List UInt8 := [21, 5, 16, 8, 162, 0, 27, 42, 180, 0, 104, 21, 5, 4, 96, 6, 42, 180, 0, 104, 21, 5, 46, 104]
abbrev dktX1_given_5 : List UInt8 := dkwX1_given_5 ++ dktX1_given_6
def dkwX1_given_4 : List UInt8 := [182, 0, 144, 192, 0, 98, 83, 132, 5, 1, 167, 255, 209, 42, 180, 0, 104, 3, 4, 79, 3, 54, 5]
abbrev dktX1_given_4 : List UInt8 := dkwX1_given_4 ++ dktX1_given_5
def dkwX1_given_3 : List UInt8 := [122, 4, 126, 4, 160, 0, 25, 42, 180, 0, 100, 21, 4, 132, 4, 1, 42, 180, 0, 33, 21, 5]
abbrev dktX1_given_3 : List UInt8 := dkwX1_given_3 ++ dktX1_given_4
def dkwX1_given_2 : List UInt8 := [182, 1, 37, 3, 54, 4, 3, 54, 5, 21, 5, 42, 180, 0, 33, 182, 0, 121, 162, 0, 41, 27, 21, 5]
abbrev dktX1_given_2 : List UInt8 := dkwX1_given_2 ++ dktX1_given_3
def dkwX1_given_1 : List UInt8 := [163, 0, 20, 28, 184, 0, 178, 153, 0, 13, 29, 3, 16, 20, 184, 0, 113, 154, 0, 5, 2, 172, 42]
abbrev dktX1_given_1 : List UInt8 := dkwX1_given_1 ++ dktX1_given_2
def dkwX1_given_0 : List UInt8 := [27, 158, 0, 42, 27, 4, 42, 180, 0, 33, 182, 0, 121, 120, 162, 0, 29, 27, 184, 1, 25, 16, 8]
abbrev dktX1_given_0 : List UInt8 := dkwX1_given_0 ++ dktX1_given_1
theorem dksX1_given_0 : cX1_given.data.toList.drop 0 = dktX1_given_0 := by decide +kernel
theorem dksX1_given_1 : cX1_given.data.toList.drop 23 = dktX1_given_1 := dk_seg dksX1_given_0 23 rfl rfl
theorem dksX1_given_2 : cX1_given.data.toList.drop 46 = dktX1_given_2 := dk_seg dksX1_given_1 23 rfl rfl
theorem dksX1_given_3 : cX1_given.data.toList.drop 70 = dktX1_given_3 := dk_seg dksX1_given_2 24 rfl rfl
theorem dksX1_given_4 : cX1_given.data.toList.drop 92 = dktX1_given_4 := dk_seg dksX1_given_3 22 rfl rfl
theorem dksX1_given_5 : cX1_given.data.toList.drop 115 = dktX1_given_5 := dk_seg dksX1_given_4 23 rfl rfl
theorem dksX1_given_6 : cX1_given.data.toList.drop 139 = dktX1_given_6 := dk_seg dksX1_given_5 24 rfl rfl
theorem dksX1_given_7 : cX1_given.data.toList.drop 163 = dktX1_given_7 := dk_seg dksX1_given_6 24 rfl rfl
theorem dksX1_given_8 : cX1_given.data.toList.drop 187 = dktX1_given_8 := dk_seg dksX1_given_7 24 rfl rfl
theorem dksX1_given_9 : cX1_given.data.toList.drop 210 = dktX1_given_9 := dk_seg dksX1_given_8 23 rfl rfl
theorem dksX1_given_10 : cX1_given.data.toList.drop 234 = dktX1_given_10 := dk_seg dksX1_given_9 24 rfl rfl
theorem dksX1_given_11 : cX1_given.data.toList.drop 258 = dktX1_given_11 := dk_seg dksX1_given_10 24 rfl rfl
theorem dksX1_given_12 : cX1_given.data.toList.drop 282 = dktX1_given_12 := dk_seg dksX1_given_11 24 rfl rfl
theorem dksX1_given_13 : cX1_given.data.toList.drop 306 = dktX1_given_13 := dk_seg dksX1_given_12 24 rfl rfl
theorem dksX1_given_14 : cX1_given.data.toList.drop 329 = dktX1_given_14 := dk_seg dksX1_given_13 23 rfl rfl
theorem dksX1_given_15 : cX1_given.data.toList.drop 353 = dktX1_given_15 := dk_seg dksX1_given_14 24 rfl rfl
theorem dksX1_given_16 : cX1_given.data.toList.drop 377 = dktX1_given_16 := dk_seg dksX1_given_15 24 rfl rfl
theorem dksX1_given_17 : cX1_given.data.toList.drop 401 = dktX1_given_17 := dk_seg dksX1_given_16 24 rfl rfl
theorem dksX1_given_18 : cX1_given.data.toList.drop 425 = dktX1_given_18 := dk_seg dksX1_given_17 24 rfl rfl
theorem dksX1_given_19 : cX1_given.data.toList.drop 448 = dktX1_given_19 := dk_seg dksX1_given_18 23 rfl rfl
theorem dksX1_given_20 : cX1_given.data.toList.drop 470 = dktX1_given_20 := dk_seg dksX1_given_19 22 rfl rfl
theorem dksX1_given_21 : cX1_given.data.toList.drop 493 = dktX1_given_21 := dk_seg dksX1_given_20 23 rfl rfl
theorem dX1_given_0 : decode cX1_given 0 = .ok (.iload_n 1, 1) := dk_27 (dk_at dksX1_given_0 0 rfl rfl)
theorem dX1_given_1 : decode cX1_given 1 = .ok (.ifCond .le 42, 3) := dk_158 0 42 (dk_at dksX1_given_0 1 rfl rfl)
theorem dX1_given_4 : decode cX1_given 4 = .ok (.iload_n 1, 1) := dk_27 (dk_at dksX1_given_0 4 rfl rfl)
theorem dX1_given_5 : decode cX1_given 5 = .ok (.iconst 1, 1) := dk_4 (dk_at dksX1_given_0 5 rfl rfl)
theorem dX1_given_6 : decode cX1_given 6 = .ok (.aload_n 0, 1) := dk_42 (dk_at dksX1_given_0 6 rfl rfl)
theorem dX1_given_7 : decode cX1_given 7 = .ok (.getfield 33, 3) := dk_180 0 33 (dk_at dksX1_given_0 7 rfl rfl)
theorem dX1_given_10 : decode cX1_given 10 = .ok (.invokevirtual 121, 3) := dk_182 0 121 (dk_at dksX1_given_0 10 rfl rfl)
theorem dX1_given_13 : decode cX1_given 13 = .ok (.ishl, 1) := dk_120 (dk_at dksX1_given_0 13 rfl rfl)
theorem dX1_given_14 : decode cX1_given 14 = .ok (.if_icmp .ge 29, 3) := dk_162 0 29 (dk_at dksX1_given_0 14 rfl rfl)
theorem dX1_given_17 : decode cX1_given 17 = .ok (.iload_n 1, 1) := dk_27 (dk_at dksX1_given_0 17 rfl rfl)
theorem dX1_given_18 : decode cX1_given 18 = .ok (.invokestatic 281, 3) := dk_184 1 25 (dk_at dksX1_given_0 18 rfl rfl)
theorem dX1_given_21 : decode cX1_given 21 = .ok (.bipush 8, 2) := dk_16 8 (dk_at dksX1_given_0 21 rfl rfl)
theorem dX1_given_23 : decode cX1_given 23 = .ok (.if_icmp .gt 20, 3) := dk_163 0 20 (dk_at dksX1_given_1 0 rfl rfl)
theorem dX1_given_26 : decode cX1_given 26 = .ok (.iload_n 2, 1) := dk_28 (dk_at dksX1_given_1 3 rfl rfl)
theorem dX1_given_27 : decode cX1_given 27 = .ok (.invokestatic 178, 3) := dk_184 0 178 (dk_at dksX1_given_1 4 rfl rfl)
theorem dX1_given_30 : decode cX1_given 30 = .ok (.ifCond .eq 13, 3) := dk_153 0 13 (dk_at dksX1_given_1 7 rfl rfl)
theorem dX1_given_33 : decode cX1_given 33 = .ok (.iload_n 3, 1) := dk_29 (dk_at dksX1_given_1 10 rfl rfl)
theorem dX1_given_34 : decode cX1_given 34 = .ok (.iconst 0, 1) := dk_3 (dk_at dksX1_given_1 11 rfl rfl)
theorem dX1_given_35 : decode cX1_given 35 = .ok (.bipush 20, 2) := dk_16 20 (dk_at dksX1_given_1 12 rfl rfl)
theorem dX1_given_37 : decode cX1_given 37 = .ok (.invokestatic 113, 3) := dk_184 0 113 (dk_at dksX1_given_1 14 rfl rfl)
theorem dX1_given_40 : decode cX1_given 40 = .ok (.ifCond .ne 5, 3) := dk_154 0 5 (dk_at dksX1_given_1 17 rfl rfl)
theorem dX1_given_43 : decode cX1_given 43 = .ok (.iconst (-1), 1) := dk_2 (dk_at dksX1_given_1 20 rfl rfl)
theorem dX1_given_44 : decode cX1_given 44 = .ok (.ireturn, 1) := dk_172 (dk_at dksX1_given_1 21 rfl rfl)
theorem dX1_given_45 : decode cX1_given 45 = .ok (.aload_n 0, 1) := dk_42 (dk_at dksX1_given_1 22 rfl rfl)
theorem dX1_given_46 : decode cX1_given 46 = .ok (.invokevirtual 293, 3) := dk_182 1 37 (dk_at dksX1_given_2 0 rfl rfl)
theorem dX1_given_49 : decode cX1_given 49 = .ok (.iconst 0, 1) := dk_3 (dk_at dksX1_given_2 3 rfl rfl)
theorem dX1_given_50 : decode cX1_given 50 = .ok (.istore 4, 2) := dk_54 4 (dk_at dksX1_given_2 4 rfl rfl)
theorem dX1_given_52 : decode cX1_given 52 = .ok (.iconst 0, 1) := dk_3 (dk_at dksX1_given_2 6 rfl rfl)
theorem dX1_given_53 : decode cX1_given 53 = .ok (.istore 5, 2) := dk_54 5 (dk_at dksX1_given_2 7 rfl rfl)
theorem dX1_given_55 : decode cX1_given 55 = .ok (.iload 5, 2) := dk_21 5 (dk_at dksX1_given_2 9 rfl rfl)
theorem dX1_given_57 : decode cX1_given 57 = .ok (.aload_n 0, 1) := dk_42 (dk_at dksX1_given_2 11 rfl rfl)
theorem dX1_given_58 : decode cX1_given 58 = .ok (.getfield 33, 3) := dk_180 0 33 (dk_at dksX1_given_2 12 rfl rfl)
theorem dX1_given_61 : decode cX1_given 61 = .ok (.invokevirtual 121, 3) := dk_182 0 121 (dk_at dksX1_given_2 15 rfl rfl)
theorem dX1_given_64 : decode cX1_given 64 = .ok (.if_icmp .ge 41, 3) := dk_162 0 41 (dk_at dksX1_given_2 18 rfl rfl)
theorem dX1_given_67 : decode cX1_given 67 = .ok (.iload_n 1, 1) := dk_27 (dk_at dksX1_given_2 21 rfl rfl)
theorem dX1_given_68 : decode cX1_given 68 = .ok (.iload 5, 2) := dk_21 5 (dk_at dksX1_given_2 22 rfl rfl)
theorem dX1_given_70 : decode cX1_given 70 = .ok (.ishr, 1) := dk_122 (dk_at dksX1_given_3 0 rfl rfl)
theorem dX1_given_71 : decode cX1_given 71 = .ok (.iconst 1, 1) := dk_4 (dk_at dksX1_given_3 1 rfl rfl)
theorem dX1_given_72 : decode cX1_given 72 = .ok (.iand, 1) := dk_126 (dk_at dksX1_given_3 2 rfl rfl)
theorem dX1_given_73 : decode cX1_given 73 = .ok (.iconst 1, 1) := dk_4 (dk_at dksX1_given_3 3 rfl rfl)
theorem dX1_given_74 : decode cX1_given 74 = .ok (.if_icmp .ne 25, 3) := dk_160 0 25 (dk_at dksX1_given_3 4 rfl rfl)
theorem dX1_given_77 : decode cX1_given 77 = .ok (.aload_n 0, 1) := dk_42 (dk_at dksX1_given_3 7 rfl rfl)
theorem dX1_given_78 : decode cX1_given 78 = .ok (.getfield 100, 3) := dk_180 0 100 (dk_at dksX1_given_3 8 rfl rfl)
theorem dX1_given_81 : decode cX1_given 81 = .ok (.iload 4, 2) := dk_21 4 (dk_at dksX1_given_3 11 rfl rfl)
theorem dX1_given_83 : decode cX1_given 83 = .ok (.iinc 4 1, 3) := dk_132 4 1 (dk_at dksX1_given_3 13 rfl rfl)
theorem dX1_given_86 : decode cX1_given 86 = .ok (.aload_n 0, 1) := dk_42 (dk_at dksX1_given_3 16 rfl rfl)
theorem dX1_given_87 : decode cX1_given 87 = .ok (.getfield 33, 3) := dk_180 0 33 (dk_at dksX1_given_3 17 rfl rfl)
theorem dX1_given_90 : decode cX1_given 90 = .ok (.iload 5, 2) := dk_21 5 (dk_at dksX1_given_3 20 rfl rfl)
theorem dX1_given_92 : decode cX1_given 92 = .ok (.invokevirtual 144, 3) := dk_182 0 144 (dk_at dksX1_given_4 0 rfl rfl)
theorem dX1_given_95 : decode cX1_given 95 = .ok (.checkcast 98, 3) := dk_192 0 98 (dk_at dksX1_given_4 3 rfl rfl)
theorem dX1_given_98 : decode cX1_given 98 = .ok (.aastore, 1) := dk_83 (dk_at dksX1_given_4 6 rfl rfl)
theorem dX1_given_99 : decode cX1_given 99 = .ok (.iinc 5 1, 3) := dk_132 5 1 (dk_at dksX1_given_4 7 rfl rfl)
theorem dX1_given_102 : decode cX1_given 102 = .ok (.goto (-47), 3) := dk_167 255 209 (dk_at dksX1_given_4 10 rfl rfl)
theorem dX1_given_105 : decode cX1_given 105 = .ok (.aload_n 0, 1) := dk_42 (dk_at dksX1_given_4 13 rfl rfl)
theorem dX1_given_106 : decode cX1_given 106 = .ok (.getfield 104, 3) := dk_180 0 104 (dk_at dksX1_given_4 14 rfl rfl)
theorem dX1_given_109 : decode cX1_given 109 = .ok (.iconst 0, 1) := dk_3 (dk_at dksX1_given_4 17 rfl rfl)
theorem dX1_given_110 : decode cX1_given 110 = .ok (.iconst 1, 1) := dk_4 (dk_at dksX1_given_4 18 rfl rfl)
theorem dX1_given_111 : decode cX1_given 111 = .ok (.iastore, 1) := dk_79 (dk_at dksX1_given_4 19 rfl rfl)
theorem dX1_given_112 : decode cX1_given 112 = .ok (.iconst 0, 1) := dk_3 (dk_at dksX1_given_4 20 rfl rfl)
theorem dX1_given_113 : decode cX1_given 113 = .ok (.istore 5, 2) := dk_54 5 (dk_at dksX1_given_4 21 rfl rfl)
theorem dX1_given_115 : decode cX1_given 115 = .ok (.iload 5, 2) := dk_21 5 (dk_at dksX1_given_5 0 rfl rfl)
theorem dX1_given_117 : decode cX1_given 117 = .ok (.bipush 8, 2) := dk_16 8 (dk_at dksX1_given_5 2 rfl rfl)
theorem dX1_given_119 : decode cX1_given 119 = .ok (.if_icmp .ge 27, 3) := dk_162 0 27 (dk_at dksX1_given_5 4 rfl rfl)
theorem dX1_given_122 : decode cX1_given 122 = .ok (.aload_n 0, 1) := dk_42 (dk_at dksX1_given_5 7 rfl rfl)
theorem dX1_given_123 : decode cX1_given 123 = .ok (.getfield 104, 3) := dk_180 0 104 (dk_at dksX1_given_5 8 rfl rfl)
theorem dX1_given_126 : decode cX1_given 126 = .ok (.iload 5, 2) := dk_21 5 (dk_at dksX1_given_5 11 rfl rfl)
theorem dX1_given_128 : decode cX1_given 128 = .ok (.iconst 1, 1) := dk_4 (dk_at dksX1_given_5 13 rfl rfl)
theorem dX1_given_129 : decode cX1_given 129 = .ok (.iadd, 1) := dk_96 (dk_at dksX1_given_5 14 rfl rfl)
theorem dX1_given_130 : decode cX1_given 130 = .ok (.iconst 3, 1) := dk_6 (dk_at dksX1_given_5 15 rfl rfl)
theorem dX1_given_131 : decode cX1_given 131 = .ok (.aload_n 0, 1) := dk_42 (dk_at dksX1_given_5 16 rfl rfl)
theorem dX1_given_132 : decode cX1_given 132 = .ok (.getfield 104, 3) := dk_180 0 104 (dk_at dksX1_given_5 17 rfl rfl)
theorem dX1_given_135 : decode cX1_given 135 = .ok (.iload 5, 2) := dk_21 5 (dk_at dksX1_given_5 20 rfl rfl)
theorem dX1_given_137 : decode cX1_given 137 = .ok (.iaload, 1) := dk_46 (dk_at dksX1_given_5 22 rfl rfl)
theorem dX1_given_138 : decode cX1_given 138 = .ok (.imul, 1) := dk_104 (dk_at dksX1_given_5 23 rfl rfl)
theorem dX1_given_139 : decode cX1_given 139 = .ok (.iastore, 1) := dk_79 (dk_at dksX1_given_6 0 rfl rfl)
theorem dX1_given_140 : decode cX1_given 140 = .ok (.iinc 5 1, 3) := dk_132 5 1 (dk_at dksX1_given_6 1 rfl rfl)
theorem dX1_given_143 : decode cX1_given 143 = .ok (.goto (-28), 3) := dk_167 255 228 (dk_at dksX1_given_6 4 rfl rfl)
theorem dX1_given_146 : decode cX1_given 146 = .ok (.aload_n 0, 1) := dk_42 (dk_at dksX1_given_6 7 rfl rfl)
theorem dX1_given_147 : decode cX1_given 147 = .ok (.getfield 104, 3) := dk_180 0 104 (dk_at dksX1_given_6 8 rfl rfl)
theorem dX1_given_150 : decode cX1_given 150 = .ok (.aload_n 0, 1) := dk_42 (dk_at dksX1_given_6 11 rfl rfl)
theorem dX1_given_151 : decode cX1_given 151 = .ok (.getfield 37, 3) := dk_180 0 37 (dk_at dksX1_given_6 12 rfl rfl)
theorem dX1_given_154 : decode cX1_given 154 = .ok (.invokevirtual 121, 3) := dk_182 0 121 (dk_at dksX1_given_6 15 rfl rfl)
theorem dX1_given_157 : decode cX1_given 157 = .ok (.iaload, 1) := dk_46 (dk_at dksX1_given_6 18 rfl rfl)
theorem dX1_given_158 : decode cX1_given 158 = .ok (.istore 5, 2) := dk_54 5 (dk_at dksX1_given_6 19 rfl rfl)
theorem dX1_given_160 : decode cX1_given 160 = .ok (.iconst 0, 1) := dk_3 (dk_at dksX1_given_6 21 rfl rfl)
theorem dX1_given_161 : decode cX1_given 161 = .ok (.istore 6, 2) := dk_54 6 (dk_at dksX1_given_6 22 rfl rfl)
theorem dX1_given_163 : decode cX1_given 163 = .ok (.iload 6, 2) := dk_21 6 (dk_at dksX1_given_7 0 rfl rfl)
theorem dX1_given_165 : decode cX1_given 165 = .ok (.iload 5, 2) := dk_21 5 (dk_at dksX1_given_7 2 rfl rfl)
theorem dX1_given_167 : decode cX1_given 167 = .ok (.if_icmp .ge 20, 3) := dk_162 0 20 (dk_at dksX1_given_7 4 rfl rfl)
theorem dX1_given_170 : decode cX1_given 170 = .ok (.aload_n 0, 1) := dk_42 (dk_at dksX1_given_7 7 rfl rfl)
theorem dX1_given_171 : decode cX1_given 171 = .ok (.getfield 95, 3) := dk_180 0 95 (dk_at dksX1_given_7 8 rfl rfl)
theorem dX1_given_174 : decode cX1_given 174 = .ok (.iload 4, 2) := dk_21 4 (dk_at dksX1_given_7 11 rfl rfl)
theorem dX1_given_176 : decode cX1_given 176 = .ok (.aaload, 1) := dk_50 (dk_at dksX1_given_7 13 rfl rfl)
theorem dX1_given_177 : decode cX1_given 177 = .ok (.iload 6, 2) := dk_21 6 (dk_at dksX1_given_7 14 rfl rfl)
theorem dX1_given_179 : decode cX1_given 179 = .ok (.iconst 0, 1) := dk_3 (dk_at dksX1_given_7 16 rfl rfl)
theorem dX1_given_180 : decode cX1_given 180 = .ok (.iastore, 1) := dk_79 (dk_at dksX1_given_7 17 rfl rfl)
theorem dX1_given_181 : decode cX1_given 181 = .ok (.iinc 6 1, 3) := dk_132 6 1 (dk_at dksX1_given_7 18 rfl rfl)
theorem dX1_given_184 : decode cX1_given 184 = .ok (.goto (-21), 3) := dk_167 255 235 (dk_at dksX1_given_7 21 rfl rfl)
theorem dX1_given_187 : decode cX1_given 187 = .ok (.iload 4, 2) := dk_21 4 (dk_at dksX1_given_8 0 rfl rfl)
theorem dX1_given_189 : decode cX1_given 189 = .ok (.iconst 1, 1) := dk_4 (dk_at dksX1_given_8 2 rfl rfl)
theorem dX1_given_190 : decode cX1_given 190 = .ok (.isub, 1) := dk_100 (dk_at dksX1_given_8 3 rfl rfl)
theorem dX1_given_191 : decode cX1_given 191 = .ok (.istore 6, 2) := dk_54 6 (dk_at dksX1_given_8 4 rfl rfl)
theorem dX1_given_193 : decode cX1_given 193 = .ok (.iload 6, 2) := dk_21 6 (dk_at dksX1_given_8 6 rfl rfl)
theorem dX1_given_195 : decode cX1_given 195 = .ok (.ifCond .lt 201, 3) := dk_155 0 201 (dk_at dksX1_given_8 8 rfl rfl)
theorem dX1_given_198 : decode cX1_given 198 = .ok (.bipush 8, 2) := dk_16 8 (dk_at dksX1_given_8 11 rfl rfl)
theorem dX1_given_200 : decode cX1_given 200 = .ok (.newarray .boolean, 2) := dk_188_4 (dk_at dksX1_given_8 13 rfl rfl)
theorem dX1_given_202 : decode cX1_given 202 = .ok (.astore 7, 2) := dk_58 7 (dk_at dksX1_given_8 15 rfl rfl)
theorem dX1_given_204 : decode cX1_given 204 = .ok (.iconst 0, 1) := dk_3 (dk_at dksX1_given_8 17 rfl rfl)
theorem dX1_given_205 : decode cX1_given 205 = .ok (.istore 8, 2) := dk_54 8 (dk_at dksX1_given_8 18 rfl rfl)
theorem dX1_given_207 : decode cX1_given 207 = .ok (.iload 8, 2) := dk_21 8 (dk_at dksX1_given_8 20 rfl rfl)
theorem dX1_given_209 : decode cX1_given 209 = .ok (.aload_n 0, 1) := dk_42 (dk_at dksX1_given_8 22 rfl rfl)
theorem dX1_given_210 : decode cX1_given 210 = .ok (.getfield 37, 3) := dk_180 0 37 (dk_at dksX1_given_9 0 rfl rfl)
theorem dX1_given_213 : decode cX1_given 213 = .ok (.invokevirtual 121, 3) := dk_182 0 121 (dk_at dksX1_given_9 3 rfl rfl)
theorem dX1_given_216 : decode cX1_given 216 = .ok (.if_icmp .ge 28, 3) := dk_162 0 28 (dk_at dksX1_given_9 6 rfl rfl)
theorem dX1_given_219 : decode cX1_given 219 = .ok (.aload 7, 2) := dk_25 7 (dk_at dksX1_given_9 9 rfl rfl)
theorem dX1_given_221 : decode cX1_given 221 = .ok (.iload 8, 2) := dk_21 8 (dk_at dksX1_given_9 11 rfl rfl)
theorem dX1_given_223 : decode cX1_given 223 = .ok (.aload_n 0, 1) := dk_42 (dk_at dksX1_given_9 13 rfl rfl)
theorem dX1_given_224 : decode cX1_given 224 = .ok (.iload 8, 2) := dk_21 8 (dk_at dksX1_given_9 14 rfl rfl)
theorem dX1_given_226 : decode cX1_given 226 = .ok (.aload_n 0, 1) := dk_42 (dk_at dksX1_given_9 16 rfl rfl)
theorem dX1_given_227 : decode cX1_given 227 = .ok (.getfield 100, 3) := dk_180 0 100 (dk_at dksX1_given_9 17 rfl rfl)
theorem dX1_given_230 : decode cX1_given 230 = .ok (.iload 6, 2) := dk_21 6 (dk_at dksX1_given_9 20 rfl rfl)
theorem dX1_given_232 : decode cX1_given 232 = .ok (.aaload, 1) := dk_50 (dk_at dksX1_given_9 22 rfl rfl)
theorem dX1_given_233 : decode cX1_given 233 = .ok (.iload_n 2, 1) := dk_28 (dk_at dksX1_given_9 23 rfl rfl)
theorem dX1_given_234 : decode cX1_given 234 = .ok (.invokevirtual 357, 3) := dk_182 1 101 (dk_at dksX1_given_10 0 rfl rfl)
theorem dX1_given_237 : decode cX1_given 237 = .ok (.bastore, 1) := dk_84 (dk_at dksX1_given_10 3 rfl rfl)
theorem dX1_given_238 : decode cX1_given 238 = .ok (.iinc 8 1, 3) := dk_132 8 1 (dk_at dksX1_given_10 4 rfl rfl)
theorem dX1_given_241 : decode cX1_given 241 = .ok (.goto (-34), 3) := dk_167 255 222 (dk_at dksX1_given_10 7 rfl rfl)
theorem dX1_given_244 : decode cX1_given 244 = .ok (.iconst 0, 1) := dk_3 (dk_at dksX1_given_10 10 rfl rfl)
theorem dX1_given_245 : decode cX1_given 245 = .ok (.istore 8, 2) := dk_54 8 (dk_at dksX1_given_10 11 rfl rfl)
theorem dX1_given_247 : decode cX1_given 247 = .ok (.iload 8, 2) := dk_21 8 (dk_at dksX1_given_10 13 rfl rfl)
theorem dX1_given_249 : decode cX1_given 249 = .ok (.iload 5, 2) := dk_21 5 (dk_at dksX1_given_10 15 rfl rfl)
theorem dX1_given_251 : decode cX1_given 251 = .ok (.if_icmp .ge 139, 3) := dk_162 0 139 (dk_at dksX1_given_10 17 rfl rfl)
theorem dX1_given_254 : decode cX1_given 254 = .ok (.aload_n 0, 1) := dk_42 (dk_at dksX1_given_10 20 rfl rfl)
theorem dX1_given_255 : decode cX1_given 255 = .ok (.getfield 95, 3) := dk_180 0 95 (dk_at dksX1_given_10 21 rfl rfl)
theorem dX1_given_258 : decode cX1_given 258 = .ok (.iload 6, 2) := dk_21 6 (dk_at dksX1_given_11 0 rfl rfl)
theorem dX1_given_260 : decode cX1_given 260 = .ok (.aaload, 1) := dk_50 (dk_at dksX1_given_11 2 rfl rfl)
theorem dX1_given_261 : decode cX1_given 261 = .ok (.iload 8, 2) := dk_21 8 (dk_at dksX1_given_11 3 rfl rfl)
theorem dX1_given_263 : decode cX1_given 263 = .ok (.ldc_w 361, 3) := dk_19 1 105 (dk_at dksX1_given_11 5 rfl rfl)
theorem dX1_given_266 : decode cX1_given 266 = .ok (.iastore, 1) := dk_79 (dk_at dksX1_given_11 8 rfl rfl)
theorem dX1_given_267 : decode cX1_given 267 = .ok (.iconst 0, 1) := dk_3 (dk_at dksX1_given_11 9 rfl rfl)
theorem dX1_given_268 : decode cX1_given 268 = .ok (.istore 9, 2) := dk_54 9 (dk_at dksX1_given_11 10 rfl rfl)
theorem dX1_given_270 : decode cX1_given 270 = .ok (.iload 9, 2) := dk_21 9 (dk_at dksX1_given_11 12 rfl rfl)
theorem dX1_given_272 : decode cX1_given 272 = .ok (.aload_n 0, 1) := dk_42 (dk_at dksX1_given_11 14 rfl rfl)
theorem dX1_given_273 : decode cX1_given 273 = .ok (.getfield 37, 3) := dk_180 0 37 (dk_at dksX1_given_11 15 rfl rfl)
theorem dX1_given_276 : decode cX1_given 276 = .ok (.invokevirtual 121, 3) := dk_182 0 121 (dk_at dksX1_given_11 18 rfl rfl)
theorem dX1_given_279 : decode cX1_given 279 = .ok (.if_icmp .ge 105, 3) := dk_162 0 105 (dk_at dksX1_given_11 21 rfl rfl)
theorem dX1_given_282 : decode cX1_given 282 = .ok (.aload 7, 2) := dk_25 7 (dk_at dksX1_given_12 0 rfl rfl)
theorem dX1_given_284 : decode cX1_given 284 = .ok (.iload 9, 2) := dk_21 9 (dk_at dksX1_given_12 2 rfl rfl)
theorem dX1_given_286 : decode cX1_given 286 = .ok (.baload, 1) := dk_51 (dk_at dksX1_given_12 4 rfl rfl)
theorem dX1_given_287 : decode cX1_given 287 = .ok (.ifCond .eq 91, 3) := dk_153 0 91 (dk_at dksX1_given_12 5 rfl rfl)
theorem dX1_given_290 : decode cX1_given 290 = .ok (.iload 8, 2) := dk_21 8 (dk_at dksX1_given_12 8 rfl rfl)
theorem dX1_given_292 : decode cX1_given 292 = .ok (.aload_n 0, 1) := dk_42 (dk_at dksX1_given_12 10 rfl rfl)
theorem dX1_given_293 : decode cX1_given 293 = .ok (.getfield 104, 3) := dk_180 0 104 (dk_at dksX1_given_12 11 rfl rfl)
theorem dX1_given_296 : decode cX1_given 296 = .ok (.iload 9, 2) := dk_21 9 (dk_at dksX1_given_12 14 rfl rfl)
theorem dX1_given_298 : decode cX1_given 298 = .ok (.iaload, 1) := dk_46 (dk_at dksX1_given_12 16 rfl rfl)
theorem dX1_given_299 : decode cX1_given 299 = .ok (.idiv, 1) := dk_108 (dk_at dksX1_given_12 17 rfl rfl)
theorem dX1_given_300 : decode cX1_given 300 = .ok (.iconst 3, 1) := dk_6 (dk_at dksX1_given_12 18 rfl rfl)
theorem dX1_given_301 : decode cX1_given 301 = .ok (.irem, 1) := dk_112 (dk_at dksX1_given_12 19 rfl rfl)
theorem dX1_given_302 : decode cX1_given 302 = .ok (.iconst 2, 1) := dk_5 (dk_at dksX1_given_12 20 rfl rfl)
theorem dX1_given_303 : decode cX1_given 303 = .ok (.if_icmp .ne 6, 3) := dk_160 0 6 (dk_at dksX1_given_12 21 rfl rfl)
theorem dX1_given_306 : decode cX1_given 306 = .ok (.goto 72, 3) := dk_167 0 72 (dk_at dksX1_given_13 0 rfl rfl)
theorem dX1_given_309 : decode cX1_given 309 = .ok (.aload_n 0, 1) := dk_42 (dk_at dksX1_given_13 3 rfl rfl)
theorem dX1_given_310 : decode cX1_given 310 = .ok (.getfield 95, 3) := dk_180 0 95 (dk_at dksX1_given_13 4 rfl rfl)
theorem dX1_given_313 : decode cX1_given 313 = .ok (.iload 6, 2) := dk_21 6 (dk_at dksX1_given_13 7 rfl rfl)
theorem dX1_given_315 : decode cX1_given 315 = .ok (.aaload, 1) := dk_50 (dk_at dksX1_given_13 9 rfl rfl)
theorem dX1_given_316 : decode cX1_given 316 = .ok (.iload 8, 2) := dk_21 8 (dk_at dksX1_given_13 10 rfl rfl)
theorem dX1_given_318 : decode cX1_given 318 = .ok (.aload_n 0, 1) := dk_42 (dk_at dksX1_given_13 12 rfl rfl)
theorem dX1_given_319 : decode cX1_given 319 = .ok (.getfield 95, 3) := dk_180 0 95 (dk_at dksX1_given_13 13 rfl rfl)
theorem dX1_given_322 : decode cX1_given 322 = .ok (.iload 6, 2) := dk_21 6 (dk_at dksX1_given_13 16 rfl rfl)
theorem dX1_given_324 : decode cX1_given 324 = .ok (.aaload, 1) := dk_50 (dk_at dksX1_given_13 18 rfl rfl)
theorem dX1_given_325 : decode cX1_given 325 = .ok (.iload 8, 2) := dk_21 8 (dk_at dksX1_given_13 19 rfl rfl)
theorem dX1_given_327 : decode cX1_given 327 = .ok (.iaload, 1) := dk_46 (dk_at dksX1_given_13 21 rfl rfl)
theorem dX1_given_328 : decode cX1_given 328 = .ok (.aload_n 0, 1) := dk_42 (dk_at dksX1_given_13 22 rfl rfl)
theorem dX1_given_329 : decode cX1_given 329 = .ok (.getfield 37, 3) := dk_180 0 37 (dk_at dksX1_given_14 0 rfl rfl)
theorem dX1_given_332 : decode cX1_given 332 = .ok (.iload 9, 2) := dk_21 9 (dk_at dksX1_given_14 3 rfl rfl)
theorem dX1_given_334 : decode cX1_given 334 = .ok (.invokevirtual 144, 3) := dk_182 0 144 (dk_at dksX1_given_14 5 rfl rfl)
theorem dX1_given_337 : decode cX1_given 337 = .ok (.checkcast 125, 3) := dk_192 0 125 (dk_at dksX1_given_14 8 rfl rfl)
theorem dX1_given_340 : decode cX1_given 340 = .ok (.aload_n 0, 1) := dk_42 (dk_at dksX1_given_14 11 rfl rfl)
theorem dX1_given_341 : decode cX1_given 341 = .ok (.getfield 100, 3) := dk_180 0 100 (dk_at dksX1_given_14 12 rfl rfl)
theorem dX1_given_344 : decode cX1_given 344 = .ok (.iload 6, 2) := dk_21 6 (dk_at dksX1_given_14 15 rfl rfl)
theorem dX1_given_346 : decode cX1_given 346 = .ok (.aaload, 1) := dk_50 (dk_at dksX1_given_14 17 rfl rfl)
theorem dX1_given_347 : decode cX1_given 347 = .ok (.getfield 349, 3) := dk_180 1 93 (dk_at dksX1_given_14 18 rfl rfl)
theorem dX1_given_350 : decode cX1_given 350 = .ok (.invokevirtual 353, 3) := dk_182 1 97 (dk_at dksX1_given_14 21 rfl rfl)
theorem dX1_given_353 : decode cX1_given 353 = .ok (.aload_n 0, 1) := dk_42 (dk_at dksX1_given_15 0 rfl rfl)
theorem dX1_given_354 : decode cX1_given 354 = .ok (.getfield 95, 3) := dk_180 0 95 (dk_at dksX1_given_15 1 rfl rfl)
theorem dX1_given_357 : decode cX1_given 357 = .ok (.iload 6, 2) := dk_21 6 (dk_at dksX1_given_15 4 rfl rfl)
theorem dX1_given_359 : decode cX1_given 359 = .ok (.iconst 1, 1) := dk_4 (dk_at dksX1_given_15 6 rfl rfl)
theorem dX1_given_360 : decode cX1_given 360 = .ok (.iadd, 1) := dk_96 (dk_at dksX1_given_15 7 rfl rfl)
theorem dX1_given_361 : decode cX1_given 361 = .ok (.aaload, 1) := dk_50 (dk_at dksX1_given_15 8 rfl rfl)
theorem dX1_given_362 : decode cX1_given 362 = .ok (.iload 8, 2) := dk_21 8 (dk_at dksX1_given_15 9 rfl rfl)
theorem dX1_given_364 : decode cX1_given 364 = .ok (.aload_n 0, 1) := dk_42 (dk_at dksX1_given_15 11 rfl rfl)
theorem dX1_given_365 : decode cX1_given 365 = .ok (.getfield 104, 3) := dk_180 0 104 (dk_at dksX1_given_15 12 rfl rfl)
theorem dX1_given_368 : decode cX1_given 368 = .ok (.iload 9, 2) := dk_21 9 (dk_at dksX1_given_15 15 rfl rfl)
theorem dX1_given_370 : decode cX1_given 370 = .ok (.iaload, 1) := dk_46 (dk_at dksX1_given_15 17 rfl rfl)
theorem dX1_given_371 : decode cX1_given 371 = .ok (.iadd, 1) := dk_96 (dk_at dksX1_given_15 18 rfl rfl)
theorem dX1_given_372 : decode cX1_given 372 = .ok (.iaload, 1) := dk_46 (dk_at dksX1_given_15 19 rfl rfl)
theorem dX1_given_373 : decode cX1_given 373 = .ok (.iadd, 1) := dk_96 (dk_at dksX1_given_15 20 rfl rfl)
theorem dX1_given_374 : decode cX1_given 374 = .ok (.invokestatic 362, 3) := dk_184 1 106 (dk_at dksX1_given_15 21 rfl rfl)
theorem dX1_given_377 : decode cX1_given 377 = .ok (.iastore, 1) := dk_79 (dk_at dksX1_given_16 0 rfl rfl)
theorem dX1_given_378 : decode cX1_given 378 = .ok (.iinc 9 1, 3) := dk_132 9 1 (dk_at dksX1_given_16 1 rfl rfl)
theorem dX1_given_381 : decode cX1_given 381 = .ok (.goto (-111), 3) := dk_167 255 145 (dk_at dksX1_given_16 4 rfl rfl)
theorem dX1_given_384 : decode cX1_given 384 = .ok (.iinc 8 1, 3) := dk_132 8 1 (dk_at dksX1_given_16 7 rfl rfl)
theorem dX1_given_387 : decode cX1_given 387 = .ok (.goto (-140), 3) := dk_167 255 116 (dk_at dksX1_given_16 10 rfl rfl)
theorem dX1_given_390 : decode cX1_given 390 = .ok (.iinc 6 (-1), 3) := dk_132 6 255 (dk_at dksX1_given_16 13 rfl rfl)
theorem dX1_given_393 : decode cX1_given 393 = .ok (.goto (-200), 3) := dk_167 255 56 (dk_at dksX1_given_16 16 rfl rfl)
theorem dX1_given_396 : decode cX1_given 396 = .ok (.aload_n 0, 1) := dk_42 (dk_at dksX1_given_16 19 rfl rfl)
theorem dX1_given_397 : decode cX1_given 397 = .ok (.getfield 95, 3) := dk_180 0 95 (dk_at dksX1_given_16 20 rfl rfl)
theorem dX1_given_400 : decode cX1_given 400 = .ok (.iconst 0, 1) := dk_3 (dk_at dksX1_given_16 23 rfl rfl)
theorem dX1_given_401 : decode cX1_given 401 = .ok (.aaload, 1) := dk_50 (dk_at dksX1_given_17 0 rfl rfl)
theorem dX1_given_402 : decode cX1_given 402 = .ok (.iconst 0, 1) := dk_3 (dk_at dksX1_given_17 1 rfl rfl)
theorem dX1_given_403 : decode cX1_given 403 = .ok (.iaload, 1) := dk_46 (dk_at dksX1_given_17 2 rfl rfl)
theorem dX1_given_404 : decode cX1_given 404 = .ok (.ldc_w 361, 3) := dk_19 1 105 (dk_at dksX1_given_17 3 rfl rfl)
theorem dX1_given_407 : decode cX1_given 407 = .ok (.if_icmp .lt 5, 3) := dk_161 0 5 (dk_at dksX1_given_17 6 rfl rfl)
theorem dX1_given_410 : decode cX1_given 410 = .ok (.iconst (-1), 1) := dk_2 (dk_at dksX1_given_17 9 rfl rfl)
theorem dX1_given_411 : decode cX1_given 411 = .ok (.ireturn, 1) := dk_172 (dk_at dksX1_given_17 10 rfl rfl)
theorem dX1_given_412 : decode cX1_given 412 = .ok (.iload_n 3, 1) := dk_29 (dk_at dksX1_given_17 11 rfl rfl)
theorem dX1_given_413 : decode cX1_given 413 = .ok (.bipush 20, 2) := dk_16 20 (dk_at dksX1_given_17 12 rfl rfl)
theorem dX1_given_415 : decode cX1_given 415 = .ok (.if_icmp .ne 12, 3) := dk_160 0 12 (dk_at dksX1_given_17 14 rfl rfl)
theorem dX1_given_418 : decode cX1_given 418 = .ok (.aload_n 0, 1) := dk_42 (dk_at dksX1_given_17 17 rfl rfl)
theorem dX1_given_419 : decode cX1_given 419 = .ok (.getfield 95, 3) := dk_180 0 95 (dk_at dksX1_given_17 18 rfl rfl)
theorem dX1_given_422 : decode cX1_given 422 = .ok (.iconst 0, 1) := dk_3 (dk_at dksX1_given_17 21 rfl rfl)
theorem dX1_given_423 : decode cX1_given 423 = .ok (.aaload, 1) := dk_50 (dk_at dksX1_given_17 22 rfl rfl)
theorem dX1_given_424 : decode cX1_given 424 = .ok (.iconst 0, 1) := dk_3 (dk_at dksX1_given_17 23 rfl rfl)
theorem dX1_given_425 : decode cX1_given 425 = .ok (.iaload, 1) := dk_46 (dk_at dksX1_given_18 0 rfl rfl)
theorem dX1_given_426 : decode cX1_given 426 = .ok (.ireturn, 1) := dk_172 (dk_at dksX1_given_18 1 rfl rfl)
theorem dX1_given_427 : decode cX1_given 427 = .ok (.iconst 0, 1) := dk_3 (dk_at dksX1_given_18 2 rfl rfl)
theorem dX1_given_428 : decode cX1_given 428 = .ok (.istore 6, 2) := dk_54 6 (dk_at dksX1_given_18 3 rfl rfl)
theorem dX1_given_430 : decode cX1_given 430 = .ok (.iconst 0, 1) := dk_3 (dk_at dksX1_given_18 5 rfl rfl)
theorem dX1_given_431 : decode cX1_given 431 = .ok (.istore 7, 2) := dk_54 7 (dk_at dksX1_given_18 6 rfl rfl)
theorem dX1_given_433 : decode cX1_given 433 = .ok (.iload 7, 2) := dk_21 7 (dk_at dksX1_given_18 8 rfl rfl)
theorem dX1_given_435 : decode cX1_given 435 = .ok (.iload 4, 2) := dk_21 4 (dk_at dksX1_given_18 10 rfl rfl)
theorem dX1_given_437 : decode cX1_given 437 = .ok (.if_icmp .ge 71, 3) := dk_162 0 71 (dk_at dksX1_given_18 12 rfl rfl)
theorem dX1_given_440 : decode cX1_given 440 = .ok (.iconst 0, 1) := dk_3 (dk_at dksX1_given_18 15 rfl rfl)
theorem dX1_given_441 : decode cX1_given 441 = .ok (.istore 8, 2) := dk_54 8 (dk_at dksX1_given_18 16 rfl rfl)
theorem dX1_given_443 : decode cX1_given 443 = .ok (.aload_n 0, 1) := dk_42 (dk_at dksX1_given_18 18 rfl rfl)
theorem dX1_given_444 : decode cX1_given 444 = .ok (.iload 7, 2) := dk_21 7 (dk_at dksX1_given_18 19 rfl rfl)
theorem dX1_given_446 : decode cX1_given 446 = .ok (.iload 6, 2) := dk_21 6 (dk_at dksX1_given_18 21 rfl rfl)
theorem dX1_given_448 : decode cX1_given 448 = .ok (.iload 8, 2) := dk_21 8 (dk_at dksX1_given_19 0 rfl rfl)
theorem dX1_given_450 : decode cX1_given 450 = .ok (.iload_n 2, 1) := dk_28 (dk_at dksX1_given_19 2 rfl rfl)
theorem dX1_given_451 : decode cX1_given 451 = .ok (.invokevirtual 365, 3) := dk_182 1 109 (dk_at dksX1_given_19 3 rfl rfl)
theorem dX1_given_454 : decode cX1_given 454 = .ok (.aload_n 0, 1) := dk_42 (dk_at dksX1_given_19 6 rfl rfl)
theorem dX1_given_455 : decode cX1_given 455 = .ok (.getfield 95, 3) := dk_180 0 95 (dk_at dksX1_given_19 7 rfl rfl)
theorem dX1_given_458 : decode cX1_given 458 = .ok (.iload 7, 2) := dk_21 7 (dk_at dksX1_given_19 10 rfl rfl)
theorem dX1_given_460 : decode cX1_given 460 = .ok (.aaload, 1) := dk_50 (dk_at dksX1_given_19 12 rfl rfl)
theorem dX1_given_461 : decode cX1_given 461 = .ok (.iload 6, 2) := dk_21 6 (dk_at dksX1_given_19 13 rfl rfl)
theorem dX1_given_463 : decode cX1_given 463 = .ok (.iaload, 1) := dk_46 (dk_at dksX1_given_19 15 rfl rfl)
theorem dX1_given_464 : decode cX1_given 464 = .ok (.if_icmp .eq 9, 3) := dk_159 0 9 (dk_at dksX1_given_19 16 rfl rfl)
theorem dX1_given_467 : decode cX1_given 467 = .ok (.iinc 8 1, 3) := dk_132 8 1 (dk_at dksX1_given_19 19 rfl rfl)
theorem dX1_given_470 : decode cX1_given 470 = .ok (.goto (-27), 3) := dk_167 255 229 (dk_at dksX1_given_20 0 rfl rfl)
theorem dX1_given_473 : decode cX1_given 473 = .ok (.aload_n 0, 1) := dk_42 (dk_at dksX1_given_20 3 rfl rfl)
theorem dX1_given_474 : decode cX1_given 474 = .ok (.getfield 100, 3) := dk_180 0 100 (dk_at dksX1_given_20 4 rfl rfl)
theorem dX1_given_477 : decode cX1_given 477 = .ok (.iload 7, 2) := dk_21 7 (dk_at dksX1_given_20 7 rfl rfl)
theorem dX1_given_479 : decode cX1_given 479 = .ok (.aaload, 1) := dk_50 (dk_at dksX1_given_20 9 rfl rfl)
theorem dX1_given_480 : decode cX1_given 480 = .ok (.getfield 324, 3) := dk_180 1 68 (dk_at dksX1_given_20 10 rfl rfl)
theorem dX1_given_483 : decode cX1_given 483 = .ok (.iload_n 3, 1) := dk_29 (dk_at dksX1_given_20 13 rfl rfl)
theorem dX1_given_484 : decode cX1_given 484 = .ok (.if_icmp .ne 6, 3) := dk_160 0 6 (dk_at dksX1_given_20 14 rfl rfl)
theorem dX1_given_487 : decode cX1_given 487 = .ok (.iload 8, 2) := dk_21 8 (dk_at dksX1_given_20 17 rfl rfl)
theorem dX1_given_489 : decode cX1_given 489 = .ok (.ireturn, 1) := dk_172 (dk_at dksX1_given_20 19 rfl rfl)
theorem dX1_given_490 : decode cX1_given 490 = .ok (.iload 6, 2) := dk_21 6 (dk_at dksX1_given_20 20 rfl rfl)
theorem dX1_given_492 : decode cX1_given 492 = .ok (.aload_n 0, 1) := dk_42 (dk_at dksX1_given_20 22 rfl rfl)
theorem dX1_given_493 : decode cX1_given 493 = .ok (.getfield 104, 3) := dk_180 0 104 (dk_at dksX1_given_21 0 rfl rfl)
theorem dX1_given_496 : decode cX1_given 496 = .ok (.iload 8, 2) := dk_21 8 (dk_at dksX1_given_21 3 rfl rfl)
theorem dX1_given_498 : decode cX1_given 498 = .ok (.iaload, 1) := dk_46 (dk_at dksX1_given_21 5 rfl rfl)
theorem dX1_given_499 : decode cX1_given 499 = .ok (.iadd, 1) := dk_96 (dk_at dksX1_given_21 6 rfl rfl)
theorem dX1_given_500 : decode cX1_given 500 = .ok (.istore 6, 2) := dk_54 6 (dk_at dksX1_given_21 7 rfl rfl)
theorem dX1_given_502 : decode cX1_given 502 = .ok (.iinc 7 1, 3) := dk_132 7 1 (dk_at dksX1_given_21 9 rfl rfl)
theorem dX1_given_505 : decode cX1_given 505 = .ok (.goto (-72), 3) := dk_167 255 184 (dk_at dksX1_given_21 12 rfl rfl)
theorem dX1_given_508 : decode cX1_given 508 = .ok (.iconst (-1), 1) := dk_2 (dk_at dksX1_given_21 15 rfl rfl)
theorem dX1_given_509 : decode cX1_given 509 = .ok (.ireturn, 1) := dk_172 (dk_at dksX1_given_21 16 rfl rfl)
abbrev cX1_sumBy : ByteArray := prog_1_method_45_code
def yX1_sumBy : MethodName := ⟨RX1, "sumBy", "(IIII)I"⟩
def dkwX1_sumBy_4 : List UInt8 := [29, 46, 96, 46, 96, 172]
abbrev dktX1_sumBy_4 : List UInt8 := dkwX1_sumBy_4 ++ []
def dkwX1_sumBy_3 : List UInt8 := [180, 0, 100, 27, 50, 180, 1, 93, 182, 1, 97, 42, 180, 0, 95, 27, 4, 96, 50, 28, 42, 180, 0, 104]
abbrev dktX1_sumBy_3 : List UInt8 := dkwX1_sumBy_3 ++ dktX1_sumBy_4
def dkwX1_sumBy_2 : List UInt8 := [182, 1, 101, 154, 0, 7, 19, 1, 105, 172, 42, 180, 0, 37, 29, 182, 0, 144, 192, 0, 125, 42]
abbrev dktX1_sumBy_2 : List UInt8 := dkwX1_sumBy_2 ++ dktX1_sumBy_3
def dkwX1_sumBy_1 : List UInt8 := [180, 0, 104, 29, 46, 96, 46, 19, 1, 105, 162, 0, 19, 42, 29, 42, 180, 0, 100, 27, 50, 21, 4]
abbrev dktX1_sumBy_1 : List UInt8 := dkwX1_sumBy_1 ++ dktX1_sumBy_2
def dkwX1_sumBy_0 : List UInt8 := [28, 42, 180, 0, 104, 29, 46, 108, 6, 112, 5, 159, 0, 42, 42, 180, 0, 95, 27, 4, 96, 50, 28, 42]
abbrev dktX1_sumBy_0 : List UInt8 := dkwX1_sumBy_0 ++ dktX1_sumBy_1
theorem dksX1_sumBy_0 : cX1_sumBy.data.toList.drop 0 = dktX1_sumBy_0 := by decide +kernel
theorem dksX1_sumBy_1 : cX1_sumBy.data.toList.drop 24 = dktX1_sumBy_1 := dk_seg dksX1_sumBy_0 24 rfl rfl
theorem dksX1_sumBy_2 : cX1_sumBy.data.toList.drop 47 = dktX1_sumBy_2 := dk_seg dksX1_sumBy_1 23 rfl rfl
theorem dksX1_sumBy_3 : cX1_sumBy.data.toList.drop 69 = dktX1_sumBy_3 := dk_seg dksX1_sumBy_2 22 rfl rfl
theorem dksX1_sumBy_4 : cX1_sumBy.data.toList.drop 93 = dktX1_sumBy_4 := dk_seg dksX1_sumBy_3 24 rfl rfl
theorem dX1_sumBy_0 : decode cX1_sumBy 0 = .ok (.iload_n 2, 1) := dk_28 (dk_at dksX1_sumBy_0 0 rfl rfl)
theorem dX1_sumBy_1 : decode cX1_sumBy 1 = .ok (.aload_n 0, 1) := dk_42 (dk_at dksX1_sumBy_0 1 rfl rfl)
theorem dX1_sumBy_2 : decode cX1_sumBy 2 = .ok (.getfield 104, 3) := dk_180 0 104 (dk_at dksX1_sumBy_0 2 rfl rfl)
theorem dX1_sumBy_5 : decode cX1_sumBy 5 = .ok (.iload_n 3, 1) := dk_29 (dk_at dksX1_sumBy_0 5 rfl rfl)
theorem dX1_sumBy_6 : decode cX1_sumBy 6 = .ok (.iaload, 1) := dk_46 (dk_at dksX1_sumBy_0 6 rfl rfl)
theorem dX1_sumBy_7 : decode cX1_sumBy 7 = .ok (.idiv, 1) := dk_108 (dk_at dksX1_sumBy_0 7 rfl rfl)
theorem dX1_sumBy_8 : decode cX1_sumBy 8 = .ok (.iconst 3, 1) := dk_6 (dk_at dksX1_sumBy_0 8 rfl rfl)
theorem dX1_sumBy_9 : decode cX1_sumBy 9 = .ok (.irem, 1) := dk_112 (dk_at dksX1_sumBy_0 9 rfl rfl)
theorem dX1_sumBy_10 : decode cX1_sumBy 10 = .ok (.iconst 2, 1) := dk_5 (dk_at dksX1_sumBy_0 10 rfl rfl)
theorem dX1_sumBy_11 : decode cX1_sumBy 11 = .ok (.if_icmp .eq 42, 3) := dk_159 0 42 (dk_at dksX1_sumBy_0 11 rfl rfl)
theorem dX1_sumBy_14 : decode cX1_sumBy 14 = .ok (.aload_n 0, 1) := dk_42 (dk_at dksX1_sumBy_0 14 rfl rfl)
theorem dX1_sumBy_15 : decode cX1_sumBy 15 = .ok (.getfield 95, 3) := dk_180 0 95 (dk_at dksX1_sumBy_0 15 rfl rfl)
theorem dX1_sumBy_18 : decode cX1_sumBy 18 = .ok (.iload_n 1, 1) := dk_27 (dk_at dksX1_sumBy_0 18 rfl rfl)
theorem dX1_sumBy_19 : decode cX1_sumBy 19 = .ok (.iconst 1, 1) := dk_4 (dk_at dksX1_sumBy_0 19 rfl rfl)
theorem dX1_sumBy_20 : decode cX1_sumBy 20 = .ok (.iadd, 1) := dk_96 (dk_at dksX1_sumBy_0 20 rfl rfl)
theorem dX1_sumBy_21 : decode cX1_sumBy 21 = .ok (.aaload, 1) := dk_50 (dk_at dksX1_sumBy_0 21 rfl rfl)
theorem dX1_sumBy_22 : decode cX1_sumBy 22 = .ok (.iload_n 2, 1) := dk_28 (dk_at dksX1_sumBy_0 22 rfl rfl)
theorem dX1_sumBy_23 : decode cX1_sumBy 23 = .ok (.aload_n 0, 1) := dk_42 (dk_at dksX1_sumBy_0 23 rfl rfl)
theorem dX1_sumBy_24 : decode cX1_sumBy 24 = .ok (.getfield 104, 3) := dk_180 0 104 (dk_at dksX1_sumBy_1 0 rfl rfl)
theorem dX1_sumBy_27 : decode cX1_sumBy 27 = .ok (.iload_n 3, 1) := dk_29 (dk_at dksX1_sumBy_1 3 rfl rfl)
theorem dX1_sumBy_28 : decode cX1_sumBy 28 = .ok (.iaload, 1) := dk_46 (dk_at dksX1_sumBy_1 4 rfl rfl)
theorem dX1_sumBy_29 : decode cX1_sumBy 29 = .ok (.iadd, 1) := dk_96 (dk_at dksX1_sumBy_1 5 rfl rfl)
theorem dX1_sumBy_30 : decode cX1_sumBy 30 = .ok (.iaload, 1) := dk_46 (dk_at dksX1_sumBy_1 6 rfl rfl)
theorem dX1_sumBy_31 : decode cX1_sumBy 31 = .ok (.ldc_w 361, 3) := dk_19 1 105 (dk_at dksX1_sumBy_1 7 rfl rfl)
theorem dX1_sumBy_34 : decode cX1_sumBy 34 = .ok (.if_icmp .ge 19, 3) := dk_162 0 19 (dk_at dksX1_sumBy_1 10 rfl rfl)
theorem dX1_sumBy_37 : decode cX1_sumBy 37 = .ok (.aload_n 0, 1) := dk_42 (dk_at dksX1_sumBy_1 13 rfl rfl)
theorem dX1_sumBy_38 : decode cX1_sumBy 38 = .ok (.iload_n 3, 1) := dk_29 (dk_at dksX1_sumBy_1 14 rfl rfl)
theorem dX1_sumBy_39 : decode cX1_sumBy 39 = .ok (.aload_n 0, 1) := dk_42 (dk_at dksX1_sumBy_1 15 rfl rfl)
theorem dX1_sumBy_40 : decode cX1_sumBy 40 = .ok (.getfield 100, 3) := dk_180 0 100 (dk_at dksX1_sumBy_1 16 rfl rfl)
theorem dX1_sumBy_43 : decode cX1_sumBy 43 = .ok (.iload_n 1, 1) := dk_27 (dk_at dksX1_sumBy_1 19 rfl rfl)
theorem dX1_sumBy_44 : decode cX1_sumBy 44 = .ok (.aaload, 1) := dk_50 (dk_at dksX1_sumBy_1 20 rfl rfl)
theorem dX1_sumBy_45 : decode cX1_sumBy 45 = .ok (.iload 4, 2) := dk_21 4 (dk_at dksX1_sumBy_1 21 rfl rfl)
theorem dX1_sumBy_47 : decode cX1_sumBy 47 = .ok (.invokevirtual 357, 3) := dk_182 1 101 (dk_at dksX1_sumBy_2 0 rfl rfl)
theorem dX1_sumBy_50 : decode cX1_sumBy 50 = .ok (.ifCond .ne 7, 3) := dk_154 0 7 (dk_at dksX1_sumBy_2 3 rfl rfl)
theorem dX1_sumBy_53 : decode cX1_sumBy 53 = .ok (.ldc_w 361, 3) := dk_19 1 105 (dk_at dksX1_sumBy_2 6 rfl rfl)
theorem dX1_sumBy_56 : decode cX1_sumBy 56 = .ok (.ireturn, 1) := dk_172 (dk_at dksX1_sumBy_2 9 rfl rfl)
theorem dX1_sumBy_57 : decode cX1_sumBy 57 = .ok (.aload_n 0, 1) := dk_42 (dk_at dksX1_sumBy_2 10 rfl rfl)
theorem dX1_sumBy_58 : decode cX1_sumBy 58 = .ok (.getfield 37, 3) := dk_180 0 37 (dk_at dksX1_sumBy_2 11 rfl rfl)
theorem dX1_sumBy_61 : decode cX1_sumBy 61 = .ok (.iload_n 3, 1) := dk_29 (dk_at dksX1_sumBy_2 14 rfl rfl)
theorem dX1_sumBy_62 : decode cX1_sumBy 62 = .ok (.invokevirtual 144, 3) := dk_182 0 144 (dk_at dksX1_sumBy_2 15 rfl rfl)
theorem dX1_sumBy_65 : decode cX1_sumBy 65 = .ok (.checkcast 125, 3) := dk_192 0 125 (dk_at dksX1_sumBy_2 18 rfl rfl)
theorem dX1_sumBy_68 : decode cX1_sumBy 68 = .ok (.aload_n 0, 1) := dk_42 (dk_at dksX1_sumBy_2 21 rfl rfl)
theorem dX1_sumBy_69 : decode cX1_sumBy 69 = .ok (.getfield 100, 3) := dk_180 0 100 (dk_at dksX1_sumBy_3 0 rfl rfl)
theorem dX1_sumBy_72 : decode cX1_sumBy 72 = .ok (.iload_n 1, 1) := dk_27 (dk_at dksX1_sumBy_3 3 rfl rfl)
theorem dX1_sumBy_73 : decode cX1_sumBy 73 = .ok (.aaload, 1) := dk_50 (dk_at dksX1_sumBy_3 4 rfl rfl)
theorem dX1_sumBy_74 : decode cX1_sumBy 74 = .ok (.getfield 349, 3) := dk_180 1 93 (dk_at dksX1_sumBy_3 5 rfl rfl)
theorem dX1_sumBy_77 : decode cX1_sumBy 77 = .ok (.invokevirtual 353, 3) := dk_182 1 97 (dk_at dksX1_sumBy_3 8 rfl rfl)
theorem dX1_sumBy_80 : decode cX1_sumBy 80 = .ok (.aload_n 0, 1) := dk_42 (dk_at dksX1_sumBy_3 11 rfl rfl)
theorem dX1_sumBy_81 : decode cX1_sumBy 81 = .ok (.getfield 95, 3) := dk_180 0 95 (dk_at dksX1_sumBy_3 12 rfl rfl)
theorem dX1_sumBy_84 : decode cX1_sumBy 84 = .ok (.iload_n 1, 1) := dk_27 (dk_at dksX1_sumBy_3 15 rfl rfl)
theorem dX1_sumBy_85 : decode cX1_sumBy 85 = .ok (.iconst 1, 1) := dk_4 (dk_at dksX1_sumBy_3 16 rfl rfl)
theorem dX1_sumBy_86 : decode cX1_sumBy 86 = .ok (.iadd, 1) := dk_96 (dk_at dksX1_sumBy_3 17 rfl rfl)
theorem dX1_sumBy_87 : decode cX1_sumBy 87 = .ok (.aaload, 1) := dk_50 (dk_at dksX1_sumBy_3 18 rfl rfl)
theorem dX1_sumBy_88 : decode cX1_sumBy 88 = .ok (.iload_n 2, 1) := dk_28 (dk_at dksX1_sumBy_3 19 rfl rfl)
theorem dX1_sumBy_89 : decode cX1_sumBy 89 = .ok (.aload_n 0, 1) := dk_42 (dk_at dksX1_sumBy_3 20 rfl rfl)
theorem dX1_sumBy_90 : decode cX1_sumBy 90 = .ok (.getfield 104, 3) := dk_180 0 104 (dk_at dksX1_sumBy_3 21 rfl rfl)
theorem dX1_sumBy_93 : decode cX1_sumBy 93 = .ok (.iload_n 3, 1) := dk_29 (dk_at dksX1_sumBy_4 0 rfl rfl)
theorem dX1_sumBy_94 : decode cX1_sumBy 94 = .ok (.iaload, 1) := dk_46 (dk_at dksX1_sumBy_4 1 rfl rfl)
theorem dX1_sumBy_95 : decode cX1_sumBy 95 = .ok (.iadd, 1) := dk_96 (dk_at dksX1_sumBy_4 2 rfl rfl)
theorem dX1_sumBy_96 : decode cX1_sumBy 96 = .ok (.iaload, 1) := dk_46 (dk_at dksX1_sumBy_4 3 rfl rfl)
theorem dX1_sumBy_97 : decode cX1_sumBy 97 = .ok (.iadd, 1) := dk_96 (dk_at dksX1_sumBy_4 4 rfl rfl)
theorem dX1_sumBy_98 : decode cX1_sumBy 98 = .ok (.ireturn, 1) := dk_172 (dk_at dksX1_sumBy_4 5 rfl rfl)
abbrev cX1_drawn : ByteArray := prog_1_method_48_code
def yX1_drawn : MethodName := ⟨RX1, "drawn", "(III)I"⟩
def dkwX1_drawn_6 : List UInt8 := [21, 8, 16, 7, 112, 159, 0, 6, 132, 7, 255, 132, 8, 1, 167, 255, 203, 21, 8, 172]
abbrev dktX1_drawn_6 : List UInt8 := dkwX1_drawn_6 ++ []
def dkwX1_drawn_5 : List UInt8 := [16, 7, 112, 21, 8, 16, 7, 112, 160, 0, 33, 25, 4, 198, 0, 19, 25, 4, 180, 0, 151, 16, 7, 112]
abbrev dktX1_drawn_5 : List UInt8 := dkwX1_drawn_5 ++ dktX1_drawn_6
def dkwX1_drawn_4 : List UInt8 := [54, 7, 16, 7, 28, 104, 54, 8, 21, 7, 157, 0, 24, 25, 4, 198, 0, 49, 25, 4, 180, 0, 151]
abbrev dktX1_drawn_4 : List UInt8 := dkwX1_drawn_4 ++ dktX1_drawn_5
def dkwX1_drawn_3 : List UInt8 := [167, 255, 231, 22, 5, 20, 1, 121, 109, 25, 4, 199, 0, 8, 16, 7, 167, 0, 5, 16, 6, 133, 113, 136]
abbrev dktX1_drawn_3 : List UInt8 := dkwX1_drawn_3 ++ dktX1_drawn_4
def dkwX1_drawn_2 : List UInt8 := [163, 0, 25, 22, 5, 20, 1, 115, 105, 20, 1, 117, 97, 20, 1, 119, 113, 55, 5, 132, 7, 1]
abbrev dktX1_drawn_2 : List UInt8 := dkwX1_drawn_2 ++ dktX1_drawn_3
def dkwX1_drawn_1 : List UInt8 := [172, 42, 182, 1, 37, 42, 27, 182, 1, 112, 58, 4, 29, 133, 55, 5, 3, 54, 7, 21, 7, 27]
abbrev dktX1_drawn_1 : List UInt8 := dkwX1_drawn_1 ++ dktX1_drawn_2
def dkwX1_drawn_0 : List UInt8 := [42, 27, 182, 0, 137, 153, 0, 18, 28, 3, 17, 5, 147, 184, 0, 113, 153, 0, 7, 29, 156, 0, 5, 2]
abbrev dktX1_drawn_0 : List UInt8 := dkwX1_drawn_0 ++ dktX1_drawn_1
theorem dksX1_drawn_0 : cX1_drawn.data.toList.drop 0 = dktX1_drawn_0 := by decide +kernel
theorem dksX1_drawn_1 : cX1_drawn.data.toList.drop 24 = dktX1_drawn_1 := dk_seg dksX1_drawn_0 24 rfl rfl
theorem dksX1_drawn_2 : cX1_drawn.data.toList.drop 46 = dktX1_drawn_2 := dk_seg dksX1_drawn_1 22 rfl rfl
theorem dksX1_drawn_3 : cX1_drawn.data.toList.drop 68 = dktX1_drawn_3 := dk_seg dksX1_drawn_2 22 rfl rfl
theorem dksX1_drawn_4 : cX1_drawn.data.toList.drop 92 = dktX1_drawn_4 := dk_seg dksX1_drawn_3 24 rfl rfl
theorem dksX1_drawn_5 : cX1_drawn.data.toList.drop 115 = dktX1_drawn_5 := dk_seg dksX1_drawn_4 23 rfl rfl
theorem dksX1_drawn_6 : cX1_drawn.data.toList.drop 139 = dktX1_drawn_6 := dk_seg dksX1_drawn_5 24 rfl rfl
theorem dX1_drawn_0 : decode cX1_drawn 0 = .ok (.aload_n 0, 1) := dk_42 (dk_at dksX1_drawn_0 0 rfl rfl)
theorem dX1_drawn_1 : decode cX1_drawn 1 = .ok (.iload_n 1, 1) := dk_27 (dk_at dksX1_drawn_0 1 rfl rfl)
theorem dX1_drawn_2 : decode cX1_drawn 2 = .ok (.invokevirtual 137, 3) := dk_182 0 137 (dk_at dksX1_drawn_0 2 rfl rfl)
theorem dX1_drawn_5 : decode cX1_drawn 5 = .ok (.ifCond .eq 18, 3) := dk_153 0 18 (dk_at dksX1_drawn_0 5 rfl rfl)
theorem dX1_drawn_8 : decode cX1_drawn 8 = .ok (.iload_n 2, 1) := dk_28 (dk_at dksX1_drawn_0 8 rfl rfl)
theorem dX1_drawn_9 : decode cX1_drawn 9 = .ok (.iconst 0, 1) := dk_3 (dk_at dksX1_drawn_0 9 rfl rfl)
theorem dX1_drawn_10 : decode cX1_drawn 10 = .ok (.sipush 1427, 3) := dk_17 5 147 (dk_at dksX1_drawn_0 10 rfl rfl)
theorem dX1_drawn_13 : decode cX1_drawn 13 = .ok (.invokestatic 113, 3) := dk_184 0 113 (dk_at dksX1_drawn_0 13 rfl rfl)
theorem dX1_drawn_16 : decode cX1_drawn 16 = .ok (.ifCond .eq 7, 3) := dk_153 0 7 (dk_at dksX1_drawn_0 16 rfl rfl)
theorem dX1_drawn_19 : decode cX1_drawn 19 = .ok (.iload_n 3, 1) := dk_29 (dk_at dksX1_drawn_0 19 rfl rfl)
theorem dX1_drawn_20 : decode cX1_drawn 20 = .ok (.ifCond .ge 5, 3) := dk_156 0 5 (dk_at dksX1_drawn_0 20 rfl rfl)
theorem dX1_drawn_23 : decode cX1_drawn 23 = .ok (.iconst (-1), 1) := dk_2 (dk_at dksX1_drawn_0 23 rfl rfl)
theorem dX1_drawn_24 : decode cX1_drawn 24 = .ok (.ireturn, 1) := dk_172 (dk_at dksX1_drawn_1 0 rfl rfl)
theorem dX1_drawn_25 : decode cX1_drawn 25 = .ok (.aload_n 0, 1) := dk_42 (dk_at dksX1_drawn_1 1 rfl rfl)
theorem dX1_drawn_26 : decode cX1_drawn 26 = .ok (.invokevirtual 293, 3) := dk_182 1 37 (dk_at dksX1_drawn_1 2 rfl rfl)
theorem dX1_drawn_29 : decode cX1_drawn 29 = .ok (.aload_n 0, 1) := dk_42 (dk_at dksX1_drawn_1 5 rfl rfl)
theorem dX1_drawn_30 : decode cX1_drawn 30 = .ok (.iload_n 1, 1) := dk_27 (dk_at dksX1_drawn_1 6 rfl rfl)
theorem dX1_drawn_31 : decode cX1_drawn 31 = .ok (.invokevirtual 368, 3) := dk_182 1 112 (dk_at dksX1_drawn_1 7 rfl rfl)
theorem dX1_drawn_34 : decode cX1_drawn 34 = .ok (.astore 4, 2) := dk_58 4 (dk_at dksX1_drawn_1 10 rfl rfl)
theorem dX1_drawn_36 : decode cX1_drawn 36 = .ok (.iload_n 3, 1) := dk_29 (dk_at dksX1_drawn_1 12 rfl rfl)
theorem dX1_drawn_37 : decode cX1_drawn 37 = .ok (.i2l, 1) := dk_133 (dk_at dksX1_drawn_1 13 rfl rfl)
theorem dX1_drawn_38 : decode cX1_drawn 38 = .ok (.lstore 5, 2) := dk_55 5 (dk_at dksX1_drawn_1 14 rfl rfl)
theorem dX1_drawn_40 : decode cX1_drawn 40 = .ok (.iconst 0, 1) := dk_3 (dk_at dksX1_drawn_1 16 rfl rfl)
theorem dX1_drawn_41 : decode cX1_drawn 41 = .ok (.istore 7, 2) := dk_54 7 (dk_at dksX1_drawn_1 17 rfl rfl)
theorem dX1_drawn_43 : decode cX1_drawn 43 = .ok (.iload 7, 2) := dk_21 7 (dk_at dksX1_drawn_1 19 rfl rfl)
theorem dX1_drawn_45 : decode cX1_drawn 45 = .ok (.iload_n 1, 1) := dk_27 (dk_at dksX1_drawn_1 21 rfl rfl)
theorem dX1_drawn_46 : decode cX1_drawn 46 = .ok (.if_icmp .gt 25, 3) := dk_163 0 25 (dk_at dksX1_drawn_2 0 rfl rfl)
theorem dX1_drawn_49 : decode cX1_drawn 49 = .ok (.lload 5, 2) := dk_22 5 (dk_at dksX1_drawn_2 3 rfl rfl)
theorem dX1_drawn_51 : decode cX1_drawn 51 = .ok (.ldc2_w 371, 3) := dk_20 1 115 (dk_at dksX1_drawn_2 5 rfl rfl)
theorem dX1_drawn_54 : decode cX1_drawn 54 = .ok (.lmul, 1) := dk_105 (dk_at dksX1_drawn_2 8 rfl rfl)
theorem dX1_drawn_55 : decode cX1_drawn 55 = .ok (.ldc2_w 373, 3) := dk_20 1 117 (dk_at dksX1_drawn_2 9 rfl rfl)
theorem dX1_drawn_58 : decode cX1_drawn 58 = .ok (.ladd, 1) := dk_97 (dk_at dksX1_drawn_2 12 rfl rfl)
theorem dX1_drawn_59 : decode cX1_drawn 59 = .ok (.ldc2_w 375, 3) := dk_20 1 119 (dk_at dksX1_drawn_2 13 rfl rfl)
theorem dX1_drawn_62 : decode cX1_drawn 62 = .ok (.lrem, 1) := dk_113 (dk_at dksX1_drawn_2 16 rfl rfl)
theorem dX1_drawn_63 : decode cX1_drawn 63 = .ok (.lstore 5, 2) := dk_55 5 (dk_at dksX1_drawn_2 17 rfl rfl)
theorem dX1_drawn_65 : decode cX1_drawn 65 = .ok (.iinc 7 1, 3) := dk_132 7 1 (dk_at dksX1_drawn_2 19 rfl rfl)
theorem dX1_drawn_68 : decode cX1_drawn 68 = .ok (.goto (-25), 3) := dk_167 255 231 (dk_at dksX1_drawn_3 0 rfl rfl)
theorem dX1_drawn_71 : decode cX1_drawn 71 = .ok (.lload 5, 2) := dk_22 5 (dk_at dksX1_drawn_3 3 rfl rfl)
theorem dX1_drawn_73 : decode cX1_drawn 73 = .ok (.ldc2_w 377, 3) := dk_20 1 121 (dk_at dksX1_drawn_3 5 rfl rfl)
theorem dX1_drawn_76 : decode cX1_drawn 76 = .ok (.ldiv, 1) := dk_109 (dk_at dksX1_drawn_3 8 rfl rfl)
theorem dX1_drawn_77 : decode cX1_drawn 77 = .ok (.aload 4, 2) := dk_25 4 (dk_at dksX1_drawn_3 9 rfl rfl)
theorem dX1_drawn_79 : decode cX1_drawn 79 = .ok (.ifnonnull 8, 3) := dk_199 0 8 (dk_at dksX1_drawn_3 11 rfl rfl)
theorem dX1_drawn_82 : decode cX1_drawn 82 = .ok (.bipush 7, 2) := dk_16 7 (dk_at dksX1_drawn_3 14 rfl rfl)
theorem dX1_drawn_84 : decode cX1_drawn 84 = .ok (.goto 5, 3) := dk_167 0 5 (dk_at dksX1_drawn_3 16 rfl rfl)
theorem dX1_drawn_87 : decode cX1_drawn 87 = .ok (.bipush 6, 2) := dk_16 6 (dk_at dksX1_drawn_3 19 rfl rfl)
theorem dX1_drawn_89 : decode cX1_drawn 89 = .ok (.i2l, 1) := dk_133 (dk_at dksX1_drawn_3 21 rfl rfl)
theorem dX1_drawn_90 : decode cX1_drawn 90 = .ok (.lrem, 1) := dk_113 (dk_at dksX1_drawn_3 22 rfl rfl)
theorem dX1_drawn_91 : decode cX1_drawn 91 = .ok (.l2i, 1) := dk_136 (dk_at dksX1_drawn_3 23 rfl rfl)
theorem dX1_drawn_92 : decode cX1_drawn 92 = .ok (.istore 7, 2) := dk_54 7 (dk_at dksX1_drawn_4 0 rfl rfl)
theorem dX1_drawn_94 : decode cX1_drawn 94 = .ok (.bipush 7, 2) := dk_16 7 (dk_at dksX1_drawn_4 2 rfl rfl)
theorem dX1_drawn_96 : decode cX1_drawn 96 = .ok (.iload_n 2, 1) := dk_28 (dk_at dksX1_drawn_4 4 rfl rfl)
theorem dX1_drawn_97 : decode cX1_drawn 97 = .ok (.imul, 1) := dk_104 (dk_at dksX1_drawn_4 5 rfl rfl)
theorem dX1_drawn_98 : decode cX1_drawn 98 = .ok (.istore 8, 2) := dk_54 8 (dk_at dksX1_drawn_4 6 rfl rfl)
theorem dX1_drawn_100 : decode cX1_drawn 100 = .ok (.iload 7, 2) := dk_21 7 (dk_at dksX1_drawn_4 8 rfl rfl)
theorem dX1_drawn_102 : decode cX1_drawn 102 = .ok (.ifCond .gt 24, 3) := dk_157 0 24 (dk_at dksX1_drawn_4 10 rfl rfl)
theorem dX1_drawn_105 : decode cX1_drawn 105 = .ok (.aload 4, 2) := dk_25 4 (dk_at dksX1_drawn_4 13 rfl rfl)
theorem dX1_drawn_107 : decode cX1_drawn 107 = .ok (.ifnull 49, 3) := dk_198 0 49 (dk_at dksX1_drawn_4 15 rfl rfl)
theorem dX1_drawn_110 : decode cX1_drawn 110 = .ok (.aload 4, 2) := dk_25 4 (dk_at dksX1_drawn_4 18 rfl rfl)
theorem dX1_drawn_112 : decode cX1_drawn 112 = .ok (.getfield 151, 3) := dk_180 0 151 (dk_at dksX1_drawn_4 20 rfl rfl)
theorem dX1_drawn_115 : decode cX1_drawn 115 = .ok (.bipush 7, 2) := dk_16 7 (dk_at dksX1_drawn_5 0 rfl rfl)
theorem dX1_drawn_117 : decode cX1_drawn 117 = .ok (.irem, 1) := dk_112 (dk_at dksX1_drawn_5 2 rfl rfl)
theorem dX1_drawn_118 : decode cX1_drawn 118 = .ok (.iload 8, 2) := dk_21 8 (dk_at dksX1_drawn_5 3 rfl rfl)
theorem dX1_drawn_120 : decode cX1_drawn 120 = .ok (.bipush 7, 2) := dk_16 7 (dk_at dksX1_drawn_5 5 rfl rfl)
theorem dX1_drawn_122 : decode cX1_drawn 122 = .ok (.irem, 1) := dk_112 (dk_at dksX1_drawn_5 7 rfl rfl)
theorem dX1_drawn_123 : decode cX1_drawn 123 = .ok (.if_icmp .ne 33, 3) := dk_160 0 33 (dk_at dksX1_drawn_5 8 rfl rfl)
theorem dX1_drawn_126 : decode cX1_drawn 126 = .ok (.aload 4, 2) := dk_25 4 (dk_at dksX1_drawn_5 11 rfl rfl)
theorem dX1_drawn_128 : decode cX1_drawn 128 = .ok (.ifnull 19, 3) := dk_198 0 19 (dk_at dksX1_drawn_5 13 rfl rfl)
theorem dX1_drawn_131 : decode cX1_drawn 131 = .ok (.aload 4, 2) := dk_25 4 (dk_at dksX1_drawn_5 16 rfl rfl)
theorem dX1_drawn_133 : decode cX1_drawn 133 = .ok (.getfield 151, 3) := dk_180 0 151 (dk_at dksX1_drawn_5 18 rfl rfl)
theorem dX1_drawn_136 : decode cX1_drawn 136 = .ok (.bipush 7, 2) := dk_16 7 (dk_at dksX1_drawn_5 21 rfl rfl)
theorem dX1_drawn_138 : decode cX1_drawn 138 = .ok (.irem, 1) := dk_112 (dk_at dksX1_drawn_5 23 rfl rfl)
theorem dX1_drawn_139 : decode cX1_drawn 139 = .ok (.iload 8, 2) := dk_21 8 (dk_at dksX1_drawn_6 0 rfl rfl)
theorem dX1_drawn_141 : decode cX1_drawn 141 = .ok (.bipush 7, 2) := dk_16 7 (dk_at dksX1_drawn_6 2 rfl rfl)
theorem dX1_drawn_143 : decode cX1_drawn 143 = .ok (.irem, 1) := dk_112 (dk_at dksX1_drawn_6 4 rfl rfl)
theorem dX1_drawn_144 : decode cX1_drawn 144 = .ok (.if_icmp .eq 6, 3) := dk_159 0 6 (dk_at dksX1_drawn_6 5 rfl rfl)
theorem dX1_drawn_147 : decode cX1_drawn 147 = .ok (.iinc 7 (-1), 3) := dk_132 7 255 (dk_at dksX1_drawn_6 8 rfl rfl)
theorem dX1_drawn_150 : decode cX1_drawn 150 = .ok (.iinc 8 1, 3) := dk_132 8 1 (dk_at dksX1_drawn_6 11 rfl rfl)
theorem dX1_drawn_153 : decode cX1_drawn 153 = .ok (.goto (-53), 3) := dk_167 255 203 (dk_at dksX1_drawn_6 14 rfl rfl)
theorem dX1_drawn_156 : decode cX1_drawn 156 = .ok (.iload 8, 2) := dk_21 8 (dk_at dksX1_drawn_6 17 rfl rfl)
theorem dX1_drawn_158 : decode cX1_drawn 158 = .ok (.ireturn, 1) := dk_172 (dk_at dksX1_drawn_6 19 rfl rfl)
abbrev cX1_latest : ByteArray := prog_1_method_47_code
def yX1_latest : MethodName := ⟨RX1, "latest", "(I)LSecretBuyers$Visit;"⟩
def dkwX1_latest_2 : List UInt8 := [77, 132, 3, 1, 167, 255, 209, 44, 176]
abbrev dktX1_latest_2 : List UInt8 := dkwX1_latest_2 ++ []
def dkwX1_latest_1 : List UInt8 := [192, 0, 81, 180, 0, 160, 180, 1, 68, 27, 160, 0, 15, 42, 180, 0, 71, 29, 182, 0, 144, 192, 0, 81]
abbrev dktX1_latest_1 : List UInt8 := dkwX1_latest_1 ++ dktX1_latest_2
def dkwX1_latest_0 : List UInt8 := [1, 77, 3, 62, 29, 42, 180, 0, 71, 182, 0, 121, 162, 0, 42, 42, 180, 0, 71, 29, 182, 0, 144]
abbrev dktX1_latest_0 : List UInt8 := dkwX1_latest_0 ++ dktX1_latest_1
theorem dksX1_latest_0 : cX1_latest.data.toList.drop 0 = dktX1_latest_0 := by decide +kernel
theorem dksX1_latest_1 : cX1_latest.data.toList.drop 23 = dktX1_latest_1 := dk_seg dksX1_latest_0 23 rfl rfl
theorem dksX1_latest_2 : cX1_latest.data.toList.drop 47 = dktX1_latest_2 := dk_seg dksX1_latest_1 24 rfl rfl
theorem dX1_latest_0 : decode cX1_latest 0 = .ok (.aconst_null, 1) := dk_1 (dk_at dksX1_latest_0 0 rfl rfl)
theorem dX1_latest_1 : decode cX1_latest 1 = .ok (.astore_n 2, 1) := dk_77 (dk_at dksX1_latest_0 1 rfl rfl)
theorem dX1_latest_2 : decode cX1_latest 2 = .ok (.iconst 0, 1) := dk_3 (dk_at dksX1_latest_0 2 rfl rfl)
theorem dX1_latest_3 : decode cX1_latest 3 = .ok (.istore_n 3, 1) := dk_62 (dk_at dksX1_latest_0 3 rfl rfl)
theorem dX1_latest_4 : decode cX1_latest 4 = .ok (.iload_n 3, 1) := dk_29 (dk_at dksX1_latest_0 4 rfl rfl)
theorem dX1_latest_5 : decode cX1_latest 5 = .ok (.aload_n 0, 1) := dk_42 (dk_at dksX1_latest_0 5 rfl rfl)
theorem dX1_latest_6 : decode cX1_latest 6 = .ok (.getfield 71, 3) := dk_180 0 71 (dk_at dksX1_latest_0 6 rfl rfl)
theorem dX1_latest_9 : decode cX1_latest 9 = .ok (.invokevirtual 121, 3) := dk_182 0 121 (dk_at dksX1_latest_0 9 rfl rfl)
theorem dX1_latest_12 : decode cX1_latest 12 = .ok (.if_icmp .ge 42, 3) := dk_162 0 42 (dk_at dksX1_latest_0 12 rfl rfl)
theorem dX1_latest_15 : decode cX1_latest 15 = .ok (.aload_n 0, 1) := dk_42 (dk_at dksX1_latest_0 15 rfl rfl)
theorem dX1_latest_16 : decode cX1_latest 16 = .ok (.getfield 71, 3) := dk_180 0 71 (dk_at dksX1_latest_0 16 rfl rfl)
theorem dX1_latest_19 : decode cX1_latest 19 = .ok (.iload_n 3, 1) := dk_29 (dk_at dksX1_latest_0 19 rfl rfl)
theorem dX1_latest_20 : decode cX1_latest 20 = .ok (.invokevirtual 144, 3) := dk_182 0 144 (dk_at dksX1_latest_0 20 rfl rfl)
theorem dX1_latest_23 : decode cX1_latest 23 = .ok (.checkcast 81, 3) := dk_192 0 81 (dk_at dksX1_latest_1 0 rfl rfl)
theorem dX1_latest_26 : decode cX1_latest 26 = .ok (.getfield 160, 3) := dk_180 0 160 (dk_at dksX1_latest_1 3 rfl rfl)
theorem dX1_latest_29 : decode cX1_latest 29 = .ok (.getfield 324, 3) := dk_180 1 68 (dk_at dksX1_latest_1 6 rfl rfl)
theorem dX1_latest_32 : decode cX1_latest 32 = .ok (.iload_n 1, 1) := dk_27 (dk_at dksX1_latest_1 9 rfl rfl)
theorem dX1_latest_33 : decode cX1_latest 33 = .ok (.if_icmp .ne 15, 3) := dk_160 0 15 (dk_at dksX1_latest_1 10 rfl rfl)
theorem dX1_latest_36 : decode cX1_latest 36 = .ok (.aload_n 0, 1) := dk_42 (dk_at dksX1_latest_1 13 rfl rfl)
theorem dX1_latest_37 : decode cX1_latest 37 = .ok (.getfield 71, 3) := dk_180 0 71 (dk_at dksX1_latest_1 14 rfl rfl)
theorem dX1_latest_40 : decode cX1_latest 40 = .ok (.iload_n 3, 1) := dk_29 (dk_at dksX1_latest_1 17 rfl rfl)
theorem dX1_latest_41 : decode cX1_latest 41 = .ok (.invokevirtual 144, 3) := dk_182 0 144 (dk_at dksX1_latest_1 18 rfl rfl)
theorem dX1_latest_44 : decode cX1_latest 44 = .ok (.checkcast 81, 3) := dk_192 0 81 (dk_at dksX1_latest_1 21 rfl rfl)
theorem dX1_latest_47 : decode cX1_latest 47 = .ok (.astore_n 2, 1) := dk_77 (dk_at dksX1_latest_2 0 rfl rfl)
theorem dX1_latest_48 : decode cX1_latest 48 = .ok (.iinc 3 1, 3) := dk_132 3 1 (dk_at dksX1_latest_2 1 rfl rfl)
theorem dX1_latest_51 : decode cX1_latest 51 = .ok (.goto (-47), 3) := dk_167 255 209 (dk_at dksX1_latest_2 4 rfl rfl)
theorem dX1_latest_54 : decode cX1_latest 54 = .ok (.aload_n 2, 1) := dk_44 (dk_at dksX1_latest_2 7 rfl rfl)
theorem dX1_latest_55 : decode cX1_latest 55 = .ok (.areturn, 1) := dk_176 (dk_at dksX1_latest_2 8 rfl rfl)
abbrev cX1_sway : ByteArray := prog_1_method_49_code
def yX1_sway : MethodName := ⟨RX1, "sway", "(II)I"⟩
def dkwX1_sway_5 : List UInt8 := [21, 4, 167, 0, 5, 21, 5, 172]
abbrev dktX1_sway_5 : List UInt8 := dkwX1_sway_5 ++ []
def dkwX1_sway_4 : List UInt8 := [21, 6, 54, 4, 21, 7, 54, 5, 132, 6, 1, 167, 255, 189, 21, 4, 155, 0, 7, 28, 154, 0, 8]
abbrev dktX1_sway_4 : List UInt8 := dkwX1_sway_4 ++ dktX1_sway_5
def dkwX1_sway_3 : List UInt8 := [21, 6, 120, 130, 182, 1, 13, 45, 180, 1, 16, 100, 54, 7, 21, 7, 21, 5, 163, 0, 6, 167, 0, 11]
abbrev dktX1_sway_3 : List UInt8 := dkwX1_sway_3 ++ dktX1_sway_4
def dkwX1_sway_2 : List UInt8 := [198, 0, 62, 21, 6, 16, 12, 162, 0, 55, 45, 180, 0, 240, 42, 180, 0, 63, 45, 45, 180, 0, 223, 4]
abbrev dktX1_sway_2 : List UInt8 := dkwX1_sway_2 ++ dktX1_sway_3
def dkwX1_sway_1 : List UInt8 := [27, 182, 1, 112, 78, 2, 54, 4, 3, 54, 5, 3, 54, 6, 45, 198, 0, 69, 45, 180, 0, 240]
abbrev dktX1_sway_1 : List UInt8 := dkwX1_sway_1 ++ dktX1_sway_2
def dkwX1_sway_0 : List UInt8 := [42, 27, 182, 0, 137, 153, 0, 12, 28, 3, 4, 184, 0, 113, 154, 0, 5, 2, 172, 42, 182, 1, 37, 42]
abbrev dktX1_sway_0 : List UInt8 := dkwX1_sway_0 ++ dktX1_sway_1
theorem dksX1_sway_0 : cX1_sway.data.toList.drop 0 = dktX1_sway_0 := by decide +kernel
theorem dksX1_sway_1 : cX1_sway.data.toList.drop 24 = dktX1_sway_1 := dk_seg dksX1_sway_0 24 rfl rfl
theorem dksX1_sway_2 : cX1_sway.data.toList.drop 46 = dktX1_sway_2 := dk_seg dksX1_sway_1 22 rfl rfl
theorem dksX1_sway_3 : cX1_sway.data.toList.drop 70 = dktX1_sway_3 := dk_seg dksX1_sway_2 24 rfl rfl
theorem dksX1_sway_4 : cX1_sway.data.toList.drop 94 = dktX1_sway_4 := dk_seg dksX1_sway_3 24 rfl rfl
theorem dksX1_sway_5 : cX1_sway.data.toList.drop 117 = dktX1_sway_5 := dk_seg dksX1_sway_4 23 rfl rfl
theorem dX1_sway_0 : decode cX1_sway 0 = .ok (.aload_n 0, 1) := dk_42 (dk_at dksX1_sway_0 0 rfl rfl)
theorem dX1_sway_1 : decode cX1_sway 1 = .ok (.iload_n 1, 1) := dk_27 (dk_at dksX1_sway_0 1 rfl rfl)
theorem dX1_sway_2 : decode cX1_sway 2 = .ok (.invokevirtual 137, 3) := dk_182 0 137 (dk_at dksX1_sway_0 2 rfl rfl)
theorem dX1_sway_5 : decode cX1_sway 5 = .ok (.ifCond .eq 12, 3) := dk_153 0 12 (dk_at dksX1_sway_0 5 rfl rfl)
theorem dX1_sway_8 : decode cX1_sway 8 = .ok (.iload_n 2, 1) := dk_28 (dk_at dksX1_sway_0 8 rfl rfl)
theorem dX1_sway_9 : decode cX1_sway 9 = .ok (.iconst 0, 1) := dk_3 (dk_at dksX1_sway_0 9 rfl rfl)
theorem dX1_sway_10 : decode cX1_sway 10 = .ok (.iconst 1, 1) := dk_4 (dk_at dksX1_sway_0 10 rfl rfl)
theorem dX1_sway_11 : decode cX1_sway 11 = .ok (.invokestatic 113, 3) := dk_184 0 113 (dk_at dksX1_sway_0 11 rfl rfl)
theorem dX1_sway_14 : decode cX1_sway 14 = .ok (.ifCond .ne 5, 3) := dk_154 0 5 (dk_at dksX1_sway_0 14 rfl rfl)
theorem dX1_sway_17 : decode cX1_sway 17 = .ok (.iconst (-1), 1) := dk_2 (dk_at dksX1_sway_0 17 rfl rfl)
theorem dX1_sway_18 : decode cX1_sway 18 = .ok (.ireturn, 1) := dk_172 (dk_at dksX1_sway_0 18 rfl rfl)
theorem dX1_sway_19 : decode cX1_sway 19 = .ok (.aload_n 0, 1) := dk_42 (dk_at dksX1_sway_0 19 rfl rfl)
theorem dX1_sway_20 : decode cX1_sway 20 = .ok (.invokevirtual 293, 3) := dk_182 1 37 (dk_at dksX1_sway_0 20 rfl rfl)
theorem dX1_sway_23 : decode cX1_sway 23 = .ok (.aload_n 0, 1) := dk_42 (dk_at dksX1_sway_0 23 rfl rfl)
theorem dX1_sway_24 : decode cX1_sway 24 = .ok (.iload_n 1, 1) := dk_27 (dk_at dksX1_sway_1 0 rfl rfl)
theorem dX1_sway_25 : decode cX1_sway 25 = .ok (.invokevirtual 368, 3) := dk_182 1 112 (dk_at dksX1_sway_1 1 rfl rfl)
theorem dX1_sway_28 : decode cX1_sway 28 = .ok (.astore_n 3, 1) := dk_78 (dk_at dksX1_sway_1 4 rfl rfl)
theorem dX1_sway_29 : decode cX1_sway 29 = .ok (.iconst (-1), 1) := dk_2 (dk_at dksX1_sway_1 5 rfl rfl)
theorem dX1_sway_30 : decode cX1_sway 30 = .ok (.istore 4, 2) := dk_54 4 (dk_at dksX1_sway_1 6 rfl rfl)
theorem dX1_sway_32 : decode cX1_sway 32 = .ok (.iconst 0, 1) := dk_3 (dk_at dksX1_sway_1 8 rfl rfl)
theorem dX1_sway_33 : decode cX1_sway 33 = .ok (.istore 5, 2) := dk_54 5 (dk_at dksX1_sway_1 9 rfl rfl)
theorem dX1_sway_35 : decode cX1_sway 35 = .ok (.iconst 0, 1) := dk_3 (dk_at dksX1_sway_1 11 rfl rfl)
theorem dX1_sway_36 : decode cX1_sway 36 = .ok (.istore 6, 2) := dk_54 6 (dk_at dksX1_sway_1 12 rfl rfl)
theorem dX1_sway_38 : decode cX1_sway 38 = .ok (.aload_n 3, 1) := dk_45 (dk_at dksX1_sway_1 14 rfl rfl)
theorem dX1_sway_39 : decode cX1_sway 39 = .ok (.ifnull 69, 3) := dk_198 0 69 (dk_at dksX1_sway_1 15 rfl rfl)
theorem dX1_sway_42 : decode cX1_sway 42 = .ok (.aload_n 3, 1) := dk_45 (dk_at dksX1_sway_1 18 rfl rfl)
theorem dX1_sway_43 : decode cX1_sway 43 = .ok (.getfield 240, 3) := dk_180 0 240 (dk_at dksX1_sway_1 19 rfl rfl)
theorem dX1_sway_46 : decode cX1_sway 46 = .ok (.ifnull 62, 3) := dk_198 0 62 (dk_at dksX1_sway_2 0 rfl rfl)
theorem dX1_sway_49 : decode cX1_sway 49 = .ok (.iload 6, 2) := dk_21 6 (dk_at dksX1_sway_2 3 rfl rfl)
theorem dX1_sway_51 : decode cX1_sway 51 = .ok (.bipush 12, 2) := dk_16 12 (dk_at dksX1_sway_2 5 rfl rfl)
theorem dX1_sway_53 : decode cX1_sway 53 = .ok (.if_icmp .ge 55, 3) := dk_162 0 55 (dk_at dksX1_sway_2 7 rfl rfl)
theorem dX1_sway_56 : decode cX1_sway 56 = .ok (.aload_n 3, 1) := dk_45 (dk_at dksX1_sway_2 10 rfl rfl)
theorem dX1_sway_57 : decode cX1_sway 57 = .ok (.getfield 240, 3) := dk_180 0 240 (dk_at dksX1_sway_2 11 rfl rfl)
theorem dX1_sway_60 : decode cX1_sway 60 = .ok (.aload_n 0, 1) := dk_42 (dk_at dksX1_sway_2 14 rfl rfl)
theorem dX1_sway_61 : decode cX1_sway 61 = .ok (.getfield 63, 3) := dk_180 0 63 (dk_at dksX1_sway_2 15 rfl rfl)
theorem dX1_sway_64 : decode cX1_sway 64 = .ok (.aload_n 3, 1) := dk_45 (dk_at dksX1_sway_2 18 rfl rfl)
theorem dX1_sway_65 : decode cX1_sway 65 = .ok (.aload_n 3, 1) := dk_45 (dk_at dksX1_sway_2 19 rfl rfl)
theorem dX1_sway_66 : decode cX1_sway 66 = .ok (.getfield 223, 3) := dk_180 0 223 (dk_at dksX1_sway_2 20 rfl rfl)
theorem dX1_sway_69 : decode cX1_sway 69 = .ok (.iconst 1, 1) := dk_4 (dk_at dksX1_sway_2 23 rfl rfl)
theorem dX1_sway_70 : decode cX1_sway 70 = .ok (.iload 6, 2) := dk_21 6 (dk_at dksX1_sway_3 0 rfl rfl)
theorem dX1_sway_72 : decode cX1_sway 72 = .ok (.ishl, 1) := dk_120 (dk_at dksX1_sway_3 2 rfl rfl)
theorem dX1_sway_73 : decode cX1_sway 73 = .ok (.ixor, 1) := dk_130 (dk_at dksX1_sway_3 3 rfl rfl)
theorem dX1_sway_74 : decode cX1_sway 74 = .ok (.invokevirtual 269, 3) := dk_182 1 13 (dk_at dksX1_sway_3 4 rfl rfl)
theorem dX1_sway_77 : decode cX1_sway 77 = .ok (.aload_n 3, 1) := dk_45 (dk_at dksX1_sway_3 7 rfl rfl)
theorem dX1_sway_78 : decode cX1_sway 78 = .ok (.getfield 272, 3) := dk_180 1 16 (dk_at dksX1_sway_3 8 rfl rfl)
theorem dX1_sway_81 : decode cX1_sway 81 = .ok (.isub, 1) := dk_100 (dk_at dksX1_sway_3 11 rfl rfl)
theorem dX1_sway_82 : decode cX1_sway 82 = .ok (.istore 7, 2) := dk_54 7 (dk_at dksX1_sway_3 12 rfl rfl)
theorem dX1_sway_84 : decode cX1_sway 84 = .ok (.iload 7, 2) := dk_21 7 (dk_at dksX1_sway_3 14 rfl rfl)
theorem dX1_sway_86 : decode cX1_sway 86 = .ok (.iload 5, 2) := dk_21 5 (dk_at dksX1_sway_3 16 rfl rfl)
theorem dX1_sway_88 : decode cX1_sway 88 = .ok (.if_icmp .gt 6, 3) := dk_163 0 6 (dk_at dksX1_sway_3 18 rfl rfl)
theorem dX1_sway_91 : decode cX1_sway 91 = .ok (.goto 11, 3) := dk_167 0 11 (dk_at dksX1_sway_3 21 rfl rfl)
theorem dX1_sway_94 : decode cX1_sway 94 = .ok (.iload 6, 2) := dk_21 6 (dk_at dksX1_sway_4 0 rfl rfl)
theorem dX1_sway_96 : decode cX1_sway 96 = .ok (.istore 4, 2) := dk_54 4 (dk_at dksX1_sway_4 2 rfl rfl)
theorem dX1_sway_98 : decode cX1_sway 98 = .ok (.iload 7, 2) := dk_21 7 (dk_at dksX1_sway_4 4 rfl rfl)
theorem dX1_sway_100 : decode cX1_sway 100 = .ok (.istore 5, 2) := dk_54 5 (dk_at dksX1_sway_4 6 rfl rfl)
theorem dX1_sway_102 : decode cX1_sway 102 = .ok (.iinc 6 1, 3) := dk_132 6 1 (dk_at dksX1_sway_4 8 rfl rfl)
theorem dX1_sway_105 : decode cX1_sway 105 = .ok (.goto (-67), 3) := dk_167 255 189 (dk_at dksX1_sway_4 11 rfl rfl)
theorem dX1_sway_108 : decode cX1_sway 108 = .ok (.iload 4, 2) := dk_21 4 (dk_at dksX1_sway_4 14 rfl rfl)
theorem dX1_sway_110 : decode cX1_sway 110 = .ok (.ifCond .lt 7, 3) := dk_155 0 7 (dk_at dksX1_sway_4 16 rfl rfl)
theorem dX1_sway_113 : decode cX1_sway 113 = .ok (.iload_n 2, 1) := dk_28 (dk_at dksX1_sway_4 19 rfl rfl)
theorem dX1_sway_114 : decode cX1_sway 114 = .ok (.ifCond .ne 8, 3) := dk_154 0 8 (dk_at dksX1_sway_4 20 rfl rfl)
theorem dX1_sway_117 : decode cX1_sway 117 = .ok (.iload 4, 2) := dk_21 4 (dk_at dksX1_sway_5 0 rfl rfl)
theorem dX1_sway_119 : decode cX1_sway 119 = .ok (.goto 5, 3) := dk_167 0 5 (dk_at dksX1_sway_5 2 rfl rfl)
theorem dX1_sway_122 : decode cX1_sway 122 = .ok (.iload 5, 2) := dk_21 5 (dk_at dksX1_sway_5 5 rfl rfl)
theorem dX1_sway_124 : decode cX1_sway 124 = .ok (.ireturn, 1) := dk_172 (dk_at dksX1_sway_5 7 rfl rfl)
abbrev cX1_sum : ByteArray := prog_1_method_50_code
def yX1_sum : MethodName := ⟨RX1, "sum", "(IIII)I"⟩
def dkwX1_sum_8 : List UInt8 := [167, 255, 121, 21, 5, 172]
abbrev dktX1_sum_8 : List UInt8 := dkwX1_sum_8 ++ []
def dkwX1_sum_7 : List UInt8 := [192, 0, 125, 25, 7, 180, 0, 160, 180, 1, 93, 182, 1, 97, 104, 96, 96, 54, 5, 132, 6, 1]
abbrev dktX1_sum_7 : List UInt8 := dkwX1_sum_7 ++ dktX1_sum_8
def dkwX1_sum_6 : List UInt8 := [42, 180, 0, 16, 42, 180, 0, 13, 8, 108, 5, 104, 42, 180, 0, 37, 25, 7, 180, 0, 148, 182, 0, 144]
abbrev dktX1_sum_6 : List UInt8 := dkwX1_sum_6 ++ dktX1_sum_7
def dkwX1_sum_5 : List UInt8 := [180, 0, 148, 28, 159, 0, 6, 167, 0, 60, 21, 5, 27, 154, 0, 11, 25, 7, 180, 1, 16, 167, 0, 43]
abbrev dktX1_sum_5 : List UInt8 := dkwX1_sum_5 ++ dktX1_sum_6
def dkwX1_sum_4 : List UInt8 := [184, 0, 113, 153, 0, 87, 27, 154, 0, 14, 25, 7, 180, 0, 160, 180, 0, 250, 167, 0, 8, 25, 7]
abbrev dktX1_sum_4 : List UInt8 := dkwX1_sum_4 ++ dktX1_sum_5
def dkwX1_sum_3 : List UInt8 := [182, 0, 144, 192, 0, 81, 58, 7, 25, 7, 182, 1, 48, 153, 0, 101, 25, 7, 180, 0, 151, 29, 21, 4]
abbrev dktX1_sum_3 : List UInt8 := dkwX1_sum_3 ++ dktX1_sum_4
def dkwX1_sum_2 : List UInt8 := [3, 54, 5, 3, 54, 6, 21, 6, 42, 180, 0, 71, 182, 0, 121, 162, 0, 129, 42, 180, 0, 71, 21, 6]
abbrev dktX1_sum_2 : List UInt8 := dkwX1_sum_2 ++ dktX1_sum_3
def dkwX1_sum_1 : List UInt8 := [6, 184, 0, 113, 154, 0, 16, 167, 0, 11, 42, 28, 182, 0, 141, 154, 0, 5, 2, 172, 42, 182, 1, 37]
abbrev dktX1_sum_1 : List UInt8 := dkwX1_sum_1 ++ dktX1_sum_2
def dkwX1_sum_0 : List UInt8 := [27, 3, 4, 184, 0, 113, 153, 0, 36, 29, 21, 4, 184, 1, 69, 153, 0, 27, 27, 154, 0, 15, 28, 3]
abbrev dktX1_sum_0 : List UInt8 := dkwX1_sum_0 ++ dktX1_sum_1
theorem dksX1_sum_0 : cX1_sum.data.toList.drop 0 = dktX1_sum_0 := by decide +kernel
theorem dksX1_sum_1 : cX1_sum.data.toList.drop 24 = dktX1_sum_1 := dk_seg dksX1_sum_0 24 rfl rfl
theorem dksX1_sum_2 : cX1_sum.data.toList.drop 48 = dktX1_sum_2 := dk_seg dksX1_sum_1 24 rfl rfl
theorem dksX1_sum_3 : cX1_sum.data.toList.drop 72 = dktX1_sum_3 := dk_seg dksX1_sum_2 24 rfl rfl
theorem dksX1_sum_4 : cX1_sum.data.toList.drop 96 = dktX1_sum_4 := dk_seg dksX1_sum_3 24 rfl rfl
theorem dksX1_sum_5 : cX1_sum.data.toList.drop 119 = dktX1_sum_5 := dk_seg dksX1_sum_4 23 rfl rfl
theorem dksX1_sum_6 : cX1_sum.data.toList.drop 143 = dktX1_sum_6 := dk_seg dksX1_sum_5 24 rfl rfl
theorem dksX1_sum_7 : cX1_sum.data.toList.drop 167 = dktX1_sum_7 := dk_seg dksX1_sum_6 24 rfl rfl
theorem dksX1_sum_8 : cX1_sum.data.toList.drop 189 = dktX1_sum_8 := dk_seg dksX1_sum_7 22 rfl rfl
theorem dX1_sum_0 : decode cX1_sum 0 = .ok (.iload_n 1, 1) := dk_27 (dk_at dksX1_sum_0 0 rfl rfl)
theorem dX1_sum_1 : decode cX1_sum 1 = .ok (.iconst 0, 1) := dk_3 (dk_at dksX1_sum_0 1 rfl rfl)
theorem dX1_sum_2 : decode cX1_sum 2 = .ok (.iconst 1, 1) := dk_4 (dk_at dksX1_sum_0 2 rfl rfl)
theorem dX1_sum_3 : decode cX1_sum 3 = .ok (.invokestatic 113, 3) := dk_184 0 113 (dk_at dksX1_sum_0 3 rfl rfl)
theorem dX1_sum_6 : decode cX1_sum 6 = .ok (.ifCond .eq 36, 3) := dk_153 0 36 (dk_at dksX1_sum_0 6 rfl rfl)
theorem dX1_sum_9 : decode cX1_sum 9 = .ok (.iload_n 3, 1) := dk_29 (dk_at dksX1_sum_0 9 rfl rfl)
theorem dX1_sum_10 : decode cX1_sum 10 = .ok (.iload 4, 2) := dk_21 4 (dk_at dksX1_sum_0 10 rfl rfl)
theorem dX1_sum_12 : decode cX1_sum 12 = .ok (.invokestatic 325, 3) := dk_184 1 69 (dk_at dksX1_sum_0 12 rfl rfl)
theorem dX1_sum_15 : decode cX1_sum 15 = .ok (.ifCond .eq 27, 3) := dk_153 0 27 (dk_at dksX1_sum_0 15 rfl rfl)
theorem dX1_sum_18 : decode cX1_sum 18 = .ok (.iload_n 1, 1) := dk_27 (dk_at dksX1_sum_0 18 rfl rfl)
theorem dX1_sum_19 : decode cX1_sum 19 = .ok (.ifCond .ne 15, 3) := dk_154 0 15 (dk_at dksX1_sum_0 19 rfl rfl)
theorem dX1_sum_22 : decode cX1_sum 22 = .ok (.iload_n 2, 1) := dk_28 (dk_at dksX1_sum_0 22 rfl rfl)
theorem dX1_sum_23 : decode cX1_sum 23 = .ok (.iconst 0, 1) := dk_3 (dk_at dksX1_sum_0 23 rfl rfl)
theorem dX1_sum_24 : decode cX1_sum 24 = .ok (.iconst 3, 1) := dk_6 (dk_at dksX1_sum_1 0 rfl rfl)
theorem dX1_sum_25 : decode cX1_sum 25 = .ok (.invokestatic 113, 3) := dk_184 0 113 (dk_at dksX1_sum_1 1 rfl rfl)
theorem dX1_sum_28 : decode cX1_sum 28 = .ok (.ifCond .ne 16, 3) := dk_154 0 16 (dk_at dksX1_sum_1 4 rfl rfl)
theorem dX1_sum_31 : decode cX1_sum 31 = .ok (.goto 11, 3) := dk_167 0 11 (dk_at dksX1_sum_1 7 rfl rfl)
theorem dX1_sum_34 : decode cX1_sum 34 = .ok (.aload_n 0, 1) := dk_42 (dk_at dksX1_sum_1 10 rfl rfl)
theorem dX1_sum_35 : decode cX1_sum 35 = .ok (.iload_n 2, 1) := dk_28 (dk_at dksX1_sum_1 11 rfl rfl)
theorem dX1_sum_36 : decode cX1_sum 36 = .ok (.invokevirtual 141, 3) := dk_182 0 141 (dk_at dksX1_sum_1 12 rfl rfl)
theorem dX1_sum_39 : decode cX1_sum 39 = .ok (.ifCond .ne 5, 3) := dk_154 0 5 (dk_at dksX1_sum_1 15 rfl rfl)
theorem dX1_sum_42 : decode cX1_sum 42 = .ok (.iconst (-1), 1) := dk_2 (dk_at dksX1_sum_1 18 rfl rfl)
theorem dX1_sum_43 : decode cX1_sum 43 = .ok (.ireturn, 1) := dk_172 (dk_at dksX1_sum_1 19 rfl rfl)
theorem dX1_sum_44 : decode cX1_sum 44 = .ok (.aload_n 0, 1) := dk_42 (dk_at dksX1_sum_1 20 rfl rfl)
theorem dX1_sum_45 : decode cX1_sum 45 = .ok (.invokevirtual 293, 3) := dk_182 1 37 (dk_at dksX1_sum_1 21 rfl rfl)
theorem dX1_sum_48 : decode cX1_sum 48 = .ok (.iconst 0, 1) := dk_3 (dk_at dksX1_sum_2 0 rfl rfl)
theorem dX1_sum_49 : decode cX1_sum 49 = .ok (.istore 5, 2) := dk_54 5 (dk_at dksX1_sum_2 1 rfl rfl)
theorem dX1_sum_51 : decode cX1_sum 51 = .ok (.iconst 0, 1) := dk_3 (dk_at dksX1_sum_2 3 rfl rfl)
theorem dX1_sum_52 : decode cX1_sum 52 = .ok (.istore 6, 2) := dk_54 6 (dk_at dksX1_sum_2 4 rfl rfl)
theorem dX1_sum_54 : decode cX1_sum 54 = .ok (.iload 6, 2) := dk_21 6 (dk_at dksX1_sum_2 6 rfl rfl)
theorem dX1_sum_56 : decode cX1_sum 56 = .ok (.aload_n 0, 1) := dk_42 (dk_at dksX1_sum_2 8 rfl rfl)
theorem dX1_sum_57 : decode cX1_sum 57 = .ok (.getfield 71, 3) := dk_180 0 71 (dk_at dksX1_sum_2 9 rfl rfl)
theorem dX1_sum_60 : decode cX1_sum 60 = .ok (.invokevirtual 121, 3) := dk_182 0 121 (dk_at dksX1_sum_2 12 rfl rfl)
theorem dX1_sum_63 : decode cX1_sum 63 = .ok (.if_icmp .ge 129, 3) := dk_162 0 129 (dk_at dksX1_sum_2 15 rfl rfl)
theorem dX1_sum_66 : decode cX1_sum 66 = .ok (.aload_n 0, 1) := dk_42 (dk_at dksX1_sum_2 18 rfl rfl)
theorem dX1_sum_67 : decode cX1_sum 67 = .ok (.getfield 71, 3) := dk_180 0 71 (dk_at dksX1_sum_2 19 rfl rfl)
theorem dX1_sum_70 : decode cX1_sum 70 = .ok (.iload 6, 2) := dk_21 6 (dk_at dksX1_sum_2 22 rfl rfl)
theorem dX1_sum_72 : decode cX1_sum 72 = .ok (.invokevirtual 144, 3) := dk_182 0 144 (dk_at dksX1_sum_3 0 rfl rfl)
theorem dX1_sum_75 : decode cX1_sum 75 = .ok (.checkcast 81, 3) := dk_192 0 81 (dk_at dksX1_sum_3 3 rfl rfl)
theorem dX1_sum_78 : decode cX1_sum 78 = .ok (.astore 7, 2) := dk_58 7 (dk_at dksX1_sum_3 6 rfl rfl)
theorem dX1_sum_80 : decode cX1_sum 80 = .ok (.aload 7, 2) := dk_25 7 (dk_at dksX1_sum_3 8 rfl rfl)
theorem dX1_sum_82 : decode cX1_sum 82 = .ok (.invokevirtual 304, 3) := dk_182 1 48 (dk_at dksX1_sum_3 10 rfl rfl)
theorem dX1_sum_85 : decode cX1_sum 85 = .ok (.ifCond .eq 101, 3) := dk_153 0 101 (dk_at dksX1_sum_3 13 rfl rfl)
theorem dX1_sum_88 : decode cX1_sum 88 = .ok (.aload 7, 2) := dk_25 7 (dk_at dksX1_sum_3 16 rfl rfl)
theorem dX1_sum_90 : decode cX1_sum 90 = .ok (.getfield 151, 3) := dk_180 0 151 (dk_at dksX1_sum_3 18 rfl rfl)
theorem dX1_sum_93 : decode cX1_sum 93 = .ok (.iload_n 3, 1) := dk_29 (dk_at dksX1_sum_3 21 rfl rfl)
theorem dX1_sum_94 : decode cX1_sum 94 = .ok (.iload 4, 2) := dk_21 4 (dk_at dksX1_sum_3 22 rfl rfl)
theorem dX1_sum_96 : decode cX1_sum 96 = .ok (.invokestatic 113, 3) := dk_184 0 113 (dk_at dksX1_sum_4 0 rfl rfl)
theorem dX1_sum_99 : decode cX1_sum 99 = .ok (.ifCond .eq 87, 3) := dk_153 0 87 (dk_at dksX1_sum_4 3 rfl rfl)
theorem dX1_sum_102 : decode cX1_sum 102 = .ok (.iload_n 1, 1) := dk_27 (dk_at dksX1_sum_4 6 rfl rfl)
theorem dX1_sum_103 : decode cX1_sum 103 = .ok (.ifCond .ne 14, 3) := dk_154 0 14 (dk_at dksX1_sum_4 7 rfl rfl)
theorem dX1_sum_106 : decode cX1_sum 106 = .ok (.aload 7, 2) := dk_25 7 (dk_at dksX1_sum_4 10 rfl rfl)
theorem dX1_sum_108 : decode cX1_sum 108 = .ok (.getfield 160, 3) := dk_180 0 160 (dk_at dksX1_sum_4 12 rfl rfl)
theorem dX1_sum_111 : decode cX1_sum 111 = .ok (.getfield 250, 3) := dk_180 0 250 (dk_at dksX1_sum_4 15 rfl rfl)
theorem dX1_sum_114 : decode cX1_sum 114 = .ok (.goto 8, 3) := dk_167 0 8 (dk_at dksX1_sum_4 18 rfl rfl)
theorem dX1_sum_117 : decode cX1_sum 117 = .ok (.aload 7, 2) := dk_25 7 (dk_at dksX1_sum_4 21 rfl rfl)
theorem dX1_sum_119 : decode cX1_sum 119 = .ok (.getfield 148, 3) := dk_180 0 148 (dk_at dksX1_sum_5 0 rfl rfl)
theorem dX1_sum_122 : decode cX1_sum 122 = .ok (.iload_n 2, 1) := dk_28 (dk_at dksX1_sum_5 3 rfl rfl)
theorem dX1_sum_123 : decode cX1_sum 123 = .ok (.if_icmp .eq 6, 3) := dk_159 0 6 (dk_at dksX1_sum_5 4 rfl rfl)
theorem dX1_sum_126 : decode cX1_sum 126 = .ok (.goto 60, 3) := dk_167 0 60 (dk_at dksX1_sum_5 7 rfl rfl)
theorem dX1_sum_129 : decode cX1_sum 129 = .ok (.iload 5, 2) := dk_21 5 (dk_at dksX1_sum_5 10 rfl rfl)
theorem dX1_sum_131 : decode cX1_sum 131 = .ok (.iload_n 1, 1) := dk_27 (dk_at dksX1_sum_5 12 rfl rfl)
theorem dX1_sum_132 : decode cX1_sum 132 = .ok (.ifCond .ne 11, 3) := dk_154 0 11 (dk_at dksX1_sum_5 13 rfl rfl)
theorem dX1_sum_135 : decode cX1_sum 135 = .ok (.aload 7, 2) := dk_25 7 (dk_at dksX1_sum_5 16 rfl rfl)
theorem dX1_sum_137 : decode cX1_sum 137 = .ok (.getfield 272, 3) := dk_180 1 16 (dk_at dksX1_sum_5 18 rfl rfl)
theorem dX1_sum_140 : decode cX1_sum 140 = .ok (.goto 43, 3) := dk_167 0 43 (dk_at dksX1_sum_5 21 rfl rfl)
theorem dX1_sum_143 : decode cX1_sum 143 = .ok (.aload_n 0, 1) := dk_42 (dk_at dksX1_sum_6 0 rfl rfl)
theorem dX1_sum_144 : decode cX1_sum 144 = .ok (.getfield 16, 3) := dk_180 0 16 (dk_at dksX1_sum_6 1 rfl rfl)
theorem dX1_sum_147 : decode cX1_sum 147 = .ok (.aload_n 0, 1) := dk_42 (dk_at dksX1_sum_6 4 rfl rfl)
theorem dX1_sum_148 : decode cX1_sum 148 = .ok (.getfield 13, 3) := dk_180 0 13 (dk_at dksX1_sum_6 5 rfl rfl)
theorem dX1_sum_151 : decode cX1_sum 151 = .ok (.iconst 5, 1) := dk_8 (dk_at dksX1_sum_6 8 rfl rfl)
theorem dX1_sum_152 : decode cX1_sum 152 = .ok (.idiv, 1) := dk_108 (dk_at dksX1_sum_6 9 rfl rfl)
theorem dX1_sum_153 : decode cX1_sum 153 = .ok (.iconst 2, 1) := dk_5 (dk_at dksX1_sum_6 10 rfl rfl)
theorem dX1_sum_154 : decode cX1_sum 154 = .ok (.imul, 1) := dk_104 (dk_at dksX1_sum_6 11 rfl rfl)
theorem dX1_sum_155 : decode cX1_sum 155 = .ok (.aload_n 0, 1) := dk_42 (dk_at dksX1_sum_6 12 rfl rfl)
theorem dX1_sum_156 : decode cX1_sum 156 = .ok (.getfield 37, 3) := dk_180 0 37 (dk_at dksX1_sum_6 13 rfl rfl)
theorem dX1_sum_159 : decode cX1_sum 159 = .ok (.aload 7, 2) := dk_25 7 (dk_at dksX1_sum_6 16 rfl rfl)
theorem dX1_sum_161 : decode cX1_sum 161 = .ok (.getfield 148, 3) := dk_180 0 148 (dk_at dksX1_sum_6 18 rfl rfl)
theorem dX1_sum_164 : decode cX1_sum 164 = .ok (.invokevirtual 144, 3) := dk_182 0 144 (dk_at dksX1_sum_6 21 rfl rfl)
theorem dX1_sum_167 : decode cX1_sum 167 = .ok (.checkcast 125, 3) := dk_192 0 125 (dk_at dksX1_sum_7 0 rfl rfl)
theorem dX1_sum_170 : decode cX1_sum 170 = .ok (.aload 7, 2) := dk_25 7 (dk_at dksX1_sum_7 3 rfl rfl)
theorem dX1_sum_172 : decode cX1_sum 172 = .ok (.getfield 160, 3) := dk_180 0 160 (dk_at dksX1_sum_7 5 rfl rfl)
theorem dX1_sum_175 : decode cX1_sum 175 = .ok (.getfield 349, 3) := dk_180 1 93 (dk_at dksX1_sum_7 8 rfl rfl)
theorem dX1_sum_178 : decode cX1_sum 178 = .ok (.invokevirtual 353, 3) := dk_182 1 97 (dk_at dksX1_sum_7 11 rfl rfl)
theorem dX1_sum_181 : decode cX1_sum 181 = .ok (.imul, 1) := dk_104 (dk_at dksX1_sum_7 14 rfl rfl)
theorem dX1_sum_182 : decode cX1_sum 182 = .ok (.iadd, 1) := dk_96 (dk_at dksX1_sum_7 15 rfl rfl)
theorem dX1_sum_183 : decode cX1_sum 183 = .ok (.iadd, 1) := dk_96 (dk_at dksX1_sum_7 16 rfl rfl)
theorem dX1_sum_184 : decode cX1_sum 184 = .ok (.istore 5, 2) := dk_54 5 (dk_at dksX1_sum_7 17 rfl rfl)
theorem dX1_sum_186 : decode cX1_sum 186 = .ok (.iinc 6 1, 3) := dk_132 6 1 (dk_at dksX1_sum_7 19 rfl rfl)
theorem dX1_sum_189 : decode cX1_sum 189 = .ok (.goto (-135), 3) := dk_167 255 121 (dk_at dksX1_sum_8 0 rfl rfl)
theorem dX1_sum_192 : decode cX1_sum 192 = .ok (.iload 5, 2) := dk_21 5 (dk_at dksX1_sum_8 3 rfl rfl)
theorem dX1_sum_194 : decode cX1_sum 194 = .ok (.ireturn, 1) := dk_172 (dk_at dksX1_sum_8 5 rfl rfl)
abbrev cX1_count : ByteArray := prog_1_method_51_code
def yX1_count : MethodName := ⟨RX1, "count", "(I)I"⟩
def dkwX1_count_11 : List UInt8 := [182, 0, 208, 96, 61, 132, 3, 1, 167, 255, 188, 28, 172, 2, 172]
abbrev dktX1_count_11 : List UInt8 := dkwX1_count_11 ++ []
def dkwX1_count_10 : List UInt8 := [182, 0, 144, 192, 0, 81, 180, 0, 148, 42, 180, 0, 71, 29, 182, 0, 144, 192, 0, 81, 180, 0, 151, 3]
abbrev dktX1_count_10 : List UInt8 := dkwX1_count_10 ++ dktX1_count_11
def dkwX1_count_9 : List UInt8 := [180, 0, 71, 29, 182, 0, 144, 192, 0, 81, 182, 0, 204, 153, 0, 39, 28, 42, 42, 180, 0, 71, 29]
abbrev dktX1_count_9 : List UInt8 := dkwX1_count_9 ++ dktX1_count_10
def dkwX1_count_8 : List UInt8 := [132, 3, 1, 167, 255, 221, 28, 172, 3, 62, 29, 42, 180, 0, 71, 182, 0, 121, 162, 0, 63, 42, 42]
abbrev dktX1_count_8 : List UInt8 := dkwX1_count_8 ++ dktX1_count_9
def dkwX1_count_7 : List UInt8 := [162, 0, 30, 42, 180, 0, 71, 29, 182, 0, 144, 192, 0, 81, 180, 0, 237, 4, 160, 0, 6, 132, 2, 1]
abbrev dktX1_count_7 : List UInt8 := dkwX1_count_7 ++ dktX1_count_8
def dkwX1_count_6 : List UInt8 := [180, 0, 46, 182, 0, 121, 172, 42, 180, 0, 175, 172, 3, 62, 29, 42, 180, 0, 71, 182, 0, 121]
abbrev dktX1_count_6 : List UInt8 := dkwX1_count_6 ++ dktX1_count_7
def dkwX1_count_5 : List UInt8 := [153, 0, 6, 132, 2, 1, 132, 3, 1, 167, 255, 222, 28, 172, 42, 180, 0, 43, 182, 0, 121, 172, 42]
abbrev dktX1_count_5 : List UInt8 := dkwX1_count_5 ++ dktX1_count_6
def dkwX1_count_4 : List UInt8 := [180, 0, 71, 182, 0, 121, 162, 0, 29, 42, 180, 0, 71, 29, 182, 0, 144, 192, 0, 81, 182, 1, 48]
abbrev dktX1_count_4 : List UInt8 := dkwX1_count_4 ++ dktX1_count_5
def dkwX1_count_3 : List UInt8 := [182, 0, 121, 172, 42, 180, 0, 40, 182, 0, 121, 172, 42, 180, 0, 71, 182, 0, 121, 172, 3, 62, 29, 42]
abbrev dktX1_count_3 : List UInt8 := dkwX1_count_3 ++ dktX1_count_4
def dkwX1_count_2 : List UInt8 := [42, 180, 0, 110, 172, 42, 182, 0, 215, 172, 42, 180, 0, 33, 182, 0, 121, 172, 42, 180, 0, 37]
abbrev dktX1_count_2 : List UInt8 := dkwX1_count_2 ++ dktX1_count_3
def dkwX1_count_1 : List UInt8 := [170, 0, 0, 1, 26, 0, 0, 0, 0, 0, 0, 0, 11, 0, 0, 0, 61, 0, 0, 0, 66, 0, 0, 0, 71, 0, 0, 0, 79, 0, 0, 0, 87, 0, 0, 0, 95, 0, 0, 0, 103, 0, 0, 0, 144, 0, 0, 0, 152, 0, 0, 0, 160, 0, 0, 0, 165, 0, 0, 0, 207]
abbrev dktX1_count_1 : List UInt8 := dkwX1_count_1 ++ dktX1_count_2
def dkwX1_count_0 : List UInt8 := [42, 182, 1, 37, 3, 61, 27]
abbrev dktX1_count_0 : List UInt8 := dkwX1_count_0 ++ dktX1_count_1
theorem dksX1_count_0 : cX1_count.data.toList.drop 0 = dktX1_count_0 := by decide +kernel
theorem dksX1_count_1 : cX1_count.data.toList.drop 7 = dktX1_count_1 := dk_seg dksX1_count_0 7 rfl rfl
theorem dksX1_count_2 : cX1_count.data.toList.drop 68 = dktX1_count_2 := dk_seg dksX1_count_1 61 rfl rfl
theorem dksX1_count_3 : cX1_count.data.toList.drop 90 = dktX1_count_3 := dk_seg dksX1_count_2 22 rfl rfl
theorem dksX1_count_4 : cX1_count.data.toList.drop 114 = dktX1_count_4 := dk_seg dksX1_count_3 24 rfl rfl
theorem dksX1_count_5 : cX1_count.data.toList.drop 137 = dktX1_count_5 := dk_seg dksX1_count_4 23 rfl rfl
theorem dksX1_count_6 : cX1_count.data.toList.drop 160 = dktX1_count_6 := dk_seg dksX1_count_5 23 rfl rfl
theorem dksX1_count_7 : cX1_count.data.toList.drop 182 = dktX1_count_7 := dk_seg dksX1_count_6 22 rfl rfl
theorem dksX1_count_8 : cX1_count.data.toList.drop 206 = dktX1_count_8 := dk_seg dksX1_count_7 24 rfl rfl
theorem dksX1_count_9 : cX1_count.data.toList.drop 229 = dktX1_count_9 := dk_seg dksX1_count_8 23 rfl rfl
theorem dksX1_count_10 : cX1_count.data.toList.drop 252 = dktX1_count_10 := dk_seg dksX1_count_9 23 rfl rfl
theorem dksX1_count_11 : cX1_count.data.toList.drop 276 = dktX1_count_11 := dk_seg dksX1_count_10 24 rfl rfl
theorem dX1_count_0 : decode cX1_count 0 = .ok (.aload_n 0, 1) := dk_42 (dk_at dksX1_count_0 0 rfl rfl)
theorem dX1_count_1 : decode cX1_count 1 = .ok (.invokevirtual 293, 3) := dk_182 1 37 (dk_at dksX1_count_0 1 rfl rfl)
theorem dX1_count_4 : decode cX1_count 4 = .ok (.iconst 0, 1) := dk_3 (dk_at dksX1_count_0 4 rfl rfl)
theorem dX1_count_5 : decode cX1_count 5 = .ok (.istore_n 2, 1) := dk_61 (dk_at dksX1_count_0 5 rfl rfl)
theorem dX1_count_6 : decode cX1_count 6 = .ok (.iload_n 1, 1) := dk_27 (dk_at dksX1_count_0 6 rfl rfl)
theorem dX1_count_7 : decode cX1_count 7 = .ok (.tableswitch 282 0 11 #[61, 66, 71, 79, 87, 95, 103, 144, 152, 160, 165, 207], 61) := by decide +kernel
theorem dX1_count_68 : decode cX1_count 68 = .ok (.aload_n 0, 1) := dk_42 (dk_at dksX1_count_2 0 rfl rfl)
theorem dX1_count_69 : decode cX1_count 69 = .ok (.getfield 110, 3) := dk_180 0 110 (dk_at dksX1_count_2 1 rfl rfl)
theorem dX1_count_72 : decode cX1_count 72 = .ok (.ireturn, 1) := dk_172 (dk_at dksX1_count_2 4 rfl rfl)
theorem dX1_count_73 : decode cX1_count 73 = .ok (.aload_n 0, 1) := dk_42 (dk_at dksX1_count_2 5 rfl rfl)
theorem dX1_count_74 : decode cX1_count 74 = .ok (.invokevirtual 215, 3) := dk_182 0 215 (dk_at dksX1_count_2 6 rfl rfl)
theorem dX1_count_77 : decode cX1_count 77 = .ok (.ireturn, 1) := dk_172 (dk_at dksX1_count_2 9 rfl rfl)
theorem dX1_count_78 : decode cX1_count 78 = .ok (.aload_n 0, 1) := dk_42 (dk_at dksX1_count_2 10 rfl rfl)
theorem dX1_count_79 : decode cX1_count 79 = .ok (.getfield 33, 3) := dk_180 0 33 (dk_at dksX1_count_2 11 rfl rfl)
theorem dX1_count_82 : decode cX1_count 82 = .ok (.invokevirtual 121, 3) := dk_182 0 121 (dk_at dksX1_count_2 14 rfl rfl)
theorem dX1_count_85 : decode cX1_count 85 = .ok (.ireturn, 1) := dk_172 (dk_at dksX1_count_2 17 rfl rfl)
theorem dX1_count_86 : decode cX1_count 86 = .ok (.aload_n 0, 1) := dk_42 (dk_at dksX1_count_2 18 rfl rfl)
theorem dX1_count_87 : decode cX1_count 87 = .ok (.getfield 37, 3) := dk_180 0 37 (dk_at dksX1_count_2 19 rfl rfl)
theorem dX1_count_90 : decode cX1_count 90 = .ok (.invokevirtual 121, 3) := dk_182 0 121 (dk_at dksX1_count_3 0 rfl rfl)
theorem dX1_count_93 : decode cX1_count 93 = .ok (.ireturn, 1) := dk_172 (dk_at dksX1_count_3 3 rfl rfl)
theorem dX1_count_94 : decode cX1_count 94 = .ok (.aload_n 0, 1) := dk_42 (dk_at dksX1_count_3 4 rfl rfl)
theorem dX1_count_95 : decode cX1_count 95 = .ok (.getfield 40, 3) := dk_180 0 40 (dk_at dksX1_count_3 5 rfl rfl)
theorem dX1_count_98 : decode cX1_count 98 = .ok (.invokevirtual 121, 3) := dk_182 0 121 (dk_at dksX1_count_3 8 rfl rfl)
theorem dX1_count_101 : decode cX1_count 101 = .ok (.ireturn, 1) := dk_172 (dk_at dksX1_count_3 11 rfl rfl)
theorem dX1_count_102 : decode cX1_count 102 = .ok (.aload_n 0, 1) := dk_42 (dk_at dksX1_count_3 12 rfl rfl)
theorem dX1_count_103 : decode cX1_count 103 = .ok (.getfield 71, 3) := dk_180 0 71 (dk_at dksX1_count_3 13 rfl rfl)
theorem dX1_count_106 : decode cX1_count 106 = .ok (.invokevirtual 121, 3) := dk_182 0 121 (dk_at dksX1_count_3 16 rfl rfl)
theorem dX1_count_109 : decode cX1_count 109 = .ok (.ireturn, 1) := dk_172 (dk_at dksX1_count_3 19 rfl rfl)
theorem dX1_count_110 : decode cX1_count 110 = .ok (.iconst 0, 1) := dk_3 (dk_at dksX1_count_3 20 rfl rfl)
theorem dX1_count_111 : decode cX1_count 111 = .ok (.istore_n 3, 1) := dk_62 (dk_at dksX1_count_3 21 rfl rfl)
theorem dX1_count_112 : decode cX1_count 112 = .ok (.iload_n 3, 1) := dk_29 (dk_at dksX1_count_3 22 rfl rfl)
theorem dX1_count_113 : decode cX1_count 113 = .ok (.aload_n 0, 1) := dk_42 (dk_at dksX1_count_3 23 rfl rfl)
theorem dX1_count_114 : decode cX1_count 114 = .ok (.getfield 71, 3) := dk_180 0 71 (dk_at dksX1_count_4 0 rfl rfl)
theorem dX1_count_117 : decode cX1_count 117 = .ok (.invokevirtual 121, 3) := dk_182 0 121 (dk_at dksX1_count_4 3 rfl rfl)
theorem dX1_count_120 : decode cX1_count 120 = .ok (.if_icmp .ge 29, 3) := dk_162 0 29 (dk_at dksX1_count_4 6 rfl rfl)
theorem dX1_count_123 : decode cX1_count 123 = .ok (.aload_n 0, 1) := dk_42 (dk_at dksX1_count_4 9 rfl rfl)
theorem dX1_count_124 : decode cX1_count 124 = .ok (.getfield 71, 3) := dk_180 0 71 (dk_at dksX1_count_4 10 rfl rfl)
theorem dX1_count_127 : decode cX1_count 127 = .ok (.iload_n 3, 1) := dk_29 (dk_at dksX1_count_4 13 rfl rfl)
theorem dX1_count_128 : decode cX1_count 128 = .ok (.invokevirtual 144, 3) := dk_182 0 144 (dk_at dksX1_count_4 14 rfl rfl)
theorem dX1_count_131 : decode cX1_count 131 = .ok (.checkcast 81, 3) := dk_192 0 81 (dk_at dksX1_count_4 17 rfl rfl)
theorem dX1_count_134 : decode cX1_count 134 = .ok (.invokevirtual 304, 3) := dk_182 1 48 (dk_at dksX1_count_4 20 rfl rfl)
theorem dX1_count_137 : decode cX1_count 137 = .ok (.ifCond .eq 6, 3) := dk_153 0 6 (dk_at dksX1_count_5 0 rfl rfl)
theorem dX1_count_140 : decode cX1_count 140 = .ok (.iinc 2 1, 3) := dk_132 2 1 (dk_at dksX1_count_5 3 rfl rfl)
theorem dX1_count_143 : decode cX1_count 143 = .ok (.iinc 3 1, 3) := dk_132 3 1 (dk_at dksX1_count_5 6 rfl rfl)
theorem dX1_count_146 : decode cX1_count 146 = .ok (.goto (-34), 3) := dk_167 255 222 (dk_at dksX1_count_5 9 rfl rfl)
theorem dX1_count_149 : decode cX1_count 149 = .ok (.iload_n 2, 1) := dk_28 (dk_at dksX1_count_5 12 rfl rfl)
theorem dX1_count_150 : decode cX1_count 150 = .ok (.ireturn, 1) := dk_172 (dk_at dksX1_count_5 13 rfl rfl)
theorem dX1_count_151 : decode cX1_count 151 = .ok (.aload_n 0, 1) := dk_42 (dk_at dksX1_count_5 14 rfl rfl)
theorem dX1_count_152 : decode cX1_count 152 = .ok (.getfield 43, 3) := dk_180 0 43 (dk_at dksX1_count_5 15 rfl rfl)
theorem dX1_count_155 : decode cX1_count 155 = .ok (.invokevirtual 121, 3) := dk_182 0 121 (dk_at dksX1_count_5 18 rfl rfl)
theorem dX1_count_158 : decode cX1_count 158 = .ok (.ireturn, 1) := dk_172 (dk_at dksX1_count_5 21 rfl rfl)
theorem dX1_count_159 : decode cX1_count 159 = .ok (.aload_n 0, 1) := dk_42 (dk_at dksX1_count_5 22 rfl rfl)
theorem dX1_count_160 : decode cX1_count 160 = .ok (.getfield 46, 3) := dk_180 0 46 (dk_at dksX1_count_6 0 rfl rfl)
theorem dX1_count_163 : decode cX1_count 163 = .ok (.invokevirtual 121, 3) := dk_182 0 121 (dk_at dksX1_count_6 3 rfl rfl)
theorem dX1_count_166 : decode cX1_count 166 = .ok (.ireturn, 1) := dk_172 (dk_at dksX1_count_6 6 rfl rfl)
theorem dX1_count_167 : decode cX1_count 167 = .ok (.aload_n 0, 1) := dk_42 (dk_at dksX1_count_6 7 rfl rfl)
theorem dX1_count_168 : decode cX1_count 168 = .ok (.getfield 175, 3) := dk_180 0 175 (dk_at dksX1_count_6 8 rfl rfl)
theorem dX1_count_171 : decode cX1_count 171 = .ok (.ireturn, 1) := dk_172 (dk_at dksX1_count_6 11 rfl rfl)
theorem dX1_count_172 : decode cX1_count 172 = .ok (.iconst 0, 1) := dk_3 (dk_at dksX1_count_6 12 rfl rfl)
theorem dX1_count_173 : decode cX1_count 173 = .ok (.istore_n 3, 1) := dk_62 (dk_at dksX1_count_6 13 rfl rfl)
theorem dX1_count_174 : decode cX1_count 174 = .ok (.iload_n 3, 1) := dk_29 (dk_at dksX1_count_6 14 rfl rfl)
theorem dX1_count_175 : decode cX1_count 175 = .ok (.aload_n 0, 1) := dk_42 (dk_at dksX1_count_6 15 rfl rfl)
theorem dX1_count_176 : decode cX1_count 176 = .ok (.getfield 71, 3) := dk_180 0 71 (dk_at dksX1_count_6 16 rfl rfl)
theorem dX1_count_179 : decode cX1_count 179 = .ok (.invokevirtual 121, 3) := dk_182 0 121 (dk_at dksX1_count_6 19 rfl rfl)
theorem dX1_count_182 : decode cX1_count 182 = .ok (.if_icmp .ge 30, 3) := dk_162 0 30 (dk_at dksX1_count_7 0 rfl rfl)
theorem dX1_count_185 : decode cX1_count 185 = .ok (.aload_n 0, 1) := dk_42 (dk_at dksX1_count_7 3 rfl rfl)
theorem dX1_count_186 : decode cX1_count 186 = .ok (.getfield 71, 3) := dk_180 0 71 (dk_at dksX1_count_7 4 rfl rfl)
theorem dX1_count_189 : decode cX1_count 189 = .ok (.iload_n 3, 1) := dk_29 (dk_at dksX1_count_7 7 rfl rfl)
theorem dX1_count_190 : decode cX1_count 190 = .ok (.invokevirtual 144, 3) := dk_182 0 144 (dk_at dksX1_count_7 8 rfl rfl)
theorem dX1_count_193 : decode cX1_count 193 = .ok (.checkcast 81, 3) := dk_192 0 81 (dk_at dksX1_count_7 11 rfl rfl)
theorem dX1_count_196 : decode cX1_count 196 = .ok (.getfield 237, 3) := dk_180 0 237 (dk_at dksX1_count_7 14 rfl rfl)
theorem dX1_count_199 : decode cX1_count 199 = .ok (.iconst 1, 1) := dk_4 (dk_at dksX1_count_7 17 rfl rfl)
theorem dX1_count_200 : decode cX1_count 200 = .ok (.if_icmp .ne 6, 3) := dk_160 0 6 (dk_at dksX1_count_7 18 rfl rfl)
theorem dX1_count_203 : decode cX1_count 203 = .ok (.iinc 2 1, 3) := dk_132 2 1 (dk_at dksX1_count_7 21 rfl rfl)
theorem dX1_count_206 : decode cX1_count 206 = .ok (.iinc 3 1, 3) := dk_132 3 1 (dk_at dksX1_count_8 0 rfl rfl)
theorem dX1_count_209 : decode cX1_count 209 = .ok (.goto (-35), 3) := dk_167 255 221 (dk_at dksX1_count_8 3 rfl rfl)
theorem dX1_count_212 : decode cX1_count 212 = .ok (.iload_n 2, 1) := dk_28 (dk_at dksX1_count_8 6 rfl rfl)
theorem dX1_count_213 : decode cX1_count 213 = .ok (.ireturn, 1) := dk_172 (dk_at dksX1_count_8 7 rfl rfl)
theorem dX1_count_214 : decode cX1_count 214 = .ok (.iconst 0, 1) := dk_3 (dk_at dksX1_count_8 8 rfl rfl)
theorem dX1_count_215 : decode cX1_count 215 = .ok (.istore_n 3, 1) := dk_62 (dk_at dksX1_count_8 9 rfl rfl)
theorem dX1_count_216 : decode cX1_count 216 = .ok (.iload_n 3, 1) := dk_29 (dk_at dksX1_count_8 10 rfl rfl)
theorem dX1_count_217 : decode cX1_count 217 = .ok (.aload_n 0, 1) := dk_42 (dk_at dksX1_count_8 11 rfl rfl)
theorem dX1_count_218 : decode cX1_count 218 = .ok (.getfield 71, 3) := dk_180 0 71 (dk_at dksX1_count_8 12 rfl rfl)
theorem dX1_count_221 : decode cX1_count 221 = .ok (.invokevirtual 121, 3) := dk_182 0 121 (dk_at dksX1_count_8 15 rfl rfl)
theorem dX1_count_224 : decode cX1_count 224 = .ok (.if_icmp .ge 63, 3) := dk_162 0 63 (dk_at dksX1_count_8 18 rfl rfl)
theorem dX1_count_227 : decode cX1_count 227 = .ok (.aload_n 0, 1) := dk_42 (dk_at dksX1_count_8 21 rfl rfl)
theorem dX1_count_228 : decode cX1_count 228 = .ok (.aload_n 0, 1) := dk_42 (dk_at dksX1_count_8 22 rfl rfl)
theorem dX1_count_229 : decode cX1_count 229 = .ok (.getfield 71, 3) := dk_180 0 71 (dk_at dksX1_count_9 0 rfl rfl)
theorem dX1_count_232 : decode cX1_count 232 = .ok (.iload_n 3, 1) := dk_29 (dk_at dksX1_count_9 3 rfl rfl)
theorem dX1_count_233 : decode cX1_count 233 = .ok (.invokevirtual 144, 3) := dk_182 0 144 (dk_at dksX1_count_9 4 rfl rfl)
theorem dX1_count_236 : decode cX1_count 236 = .ok (.checkcast 81, 3) := dk_192 0 81 (dk_at dksX1_count_9 7 rfl rfl)
theorem dX1_count_239 : decode cX1_count 239 = .ok (.invokevirtual 204, 3) := dk_182 0 204 (dk_at dksX1_count_9 10 rfl rfl)
theorem dX1_count_242 : decode cX1_count 242 = .ok (.ifCond .eq 39, 3) := dk_153 0 39 (dk_at dksX1_count_9 13 rfl rfl)
theorem dX1_count_245 : decode cX1_count 245 = .ok (.iload_n 2, 1) := dk_28 (dk_at dksX1_count_9 16 rfl rfl)
theorem dX1_count_246 : decode cX1_count 246 = .ok (.aload_n 0, 1) := dk_42 (dk_at dksX1_count_9 17 rfl rfl)
theorem dX1_count_247 : decode cX1_count 247 = .ok (.aload_n 0, 1) := dk_42 (dk_at dksX1_count_9 18 rfl rfl)
theorem dX1_count_248 : decode cX1_count 248 = .ok (.getfield 71, 3) := dk_180 0 71 (dk_at dksX1_count_9 19 rfl rfl)
theorem dX1_count_251 : decode cX1_count 251 = .ok (.iload_n 3, 1) := dk_29 (dk_at dksX1_count_9 22 rfl rfl)
theorem dX1_count_252 : decode cX1_count 252 = .ok (.invokevirtual 144, 3) := dk_182 0 144 (dk_at dksX1_count_10 0 rfl rfl)
theorem dX1_count_255 : decode cX1_count 255 = .ok (.checkcast 81, 3) := dk_192 0 81 (dk_at dksX1_count_10 3 rfl rfl)
theorem dX1_count_258 : decode cX1_count 258 = .ok (.getfield 148, 3) := dk_180 0 148 (dk_at dksX1_count_10 6 rfl rfl)
theorem dX1_count_261 : decode cX1_count 261 = .ok (.aload_n 0, 1) := dk_42 (dk_at dksX1_count_10 9 rfl rfl)
theorem dX1_count_262 : decode cX1_count 262 = .ok (.getfield 71, 3) := dk_180 0 71 (dk_at dksX1_count_10 10 rfl rfl)
theorem dX1_count_265 : decode cX1_count 265 = .ok (.iload_n 3, 1) := dk_29 (dk_at dksX1_count_10 13 rfl rfl)
theorem dX1_count_266 : decode cX1_count 266 = .ok (.invokevirtual 144, 3) := dk_182 0 144 (dk_at dksX1_count_10 14 rfl rfl)
theorem dX1_count_269 : decode cX1_count 269 = .ok (.checkcast 81, 3) := dk_192 0 81 (dk_at dksX1_count_10 17 rfl rfl)
theorem dX1_count_272 : decode cX1_count 272 = .ok (.getfield 151, 3) := dk_180 0 151 (dk_at dksX1_count_10 20 rfl rfl)
theorem dX1_count_275 : decode cX1_count 275 = .ok (.iconst 0, 1) := dk_3 (dk_at dksX1_count_10 23 rfl rfl)
theorem dX1_count_276 : decode cX1_count 276 = .ok (.invokevirtual 208, 3) := dk_182 0 208 (dk_at dksX1_count_11 0 rfl rfl)
theorem dX1_count_279 : decode cX1_count 279 = .ok (.iadd, 1) := dk_96 (dk_at dksX1_count_11 3 rfl rfl)
theorem dX1_count_280 : decode cX1_count 280 = .ok (.istore_n 2, 1) := dk_61 (dk_at dksX1_count_11 4 rfl rfl)
theorem dX1_count_281 : decode cX1_count 281 = .ok (.iinc 3 1, 3) := dk_132 3 1 (dk_at dksX1_count_11 5 rfl rfl)
theorem dX1_count_284 : decode cX1_count 284 = .ok (.goto (-68), 3) := dk_167 255 188 (dk_at dksX1_count_11 8 rfl rfl)
theorem dX1_count_287 : decode cX1_count 287 = .ok (.iload_n 2, 1) := dk_28 (dk_at dksX1_count_11 11 rfl rfl)
theorem dX1_count_288 : decode cX1_count 288 = .ok (.ireturn, 1) := dk_172 (dk_at dksX1_count_11 12 rfl rfl)
theorem dX1_count_289 : decode cX1_count 289 = .ok (.iconst (-1), 1) := dk_2 (dk_at dksX1_count_11 13 rfl rfl)
theorem dX1_count_290 : decode cX1_count 290 = .ok (.ireturn, 1) := dk_172 (dk_at dksX1_count_11 14 rfl rfl)
abbrev cX1_look : ByteArray := prog_1_method_27_code
def yX1_look : MethodName := ⟨RX1, "look", "(II)I"⟩
def dkwX1_look_3 : List UInt8 := [153, 0, 7, 4, 167, 0, 4, 3, 172, 42, 180, 0, 46, 45, 180, 0, 240, 182, 1, 51, 172]
abbrev dktX1_look_3 : List UInt8 := dkwX1_look_3 ++ []
def dkwX1_look_2 : List UInt8 := [45, 180, 1, 7, 172, 45, 180, 1, 16, 172, 45, 180, 0, 223, 172, 45, 180, 0, 237, 172, 45, 182, 1, 48]
abbrev dktX1_look_2 : List UInt8 := dkwX1_look_2 ++ dktX1_look_3
def dkwX1_look_1 : List UInt8 := [170, 0, 0, 0, 0, 0, 0, 69, 0, 0, 0, 0, 0, 0, 0, 4, 0, 0, 0, 36, 0, 0, 0, 41, 0, 0, 0, 46, 0, 0, 0, 51, 0, 0, 0, 56]
abbrev dktX1_look_1 : List UInt8 := dkwX1_look_1 ++ dktX1_look_2
def dkwX1_look_0 : List UInt8 := [42, 27, 182, 1, 44, 78, 28, 3, 8, 184, 0, 113, 184, 1, 40, 28]
abbrev dktX1_look_0 : List UInt8 := dkwX1_look_0 ++ dktX1_look_1
theorem dksX1_look_0 : cX1_look.data.toList.drop 0 = dktX1_look_0 := by decide +kernel
theorem dksX1_look_1 : cX1_look.data.toList.drop 16 = dktX1_look_1 := dk_seg dksX1_look_0 16 rfl rfl
theorem dksX1_look_2 : cX1_look.data.toList.drop 52 = dktX1_look_2 := dk_seg dksX1_look_1 36 rfl rfl
theorem dksX1_look_3 : cX1_look.data.toList.drop 76 = dktX1_look_3 := dk_seg dksX1_look_2 24 rfl rfl
theorem dX1_look_0 : decode cX1_look 0 = .ok (.aload_n 0, 1) := dk_42 (dk_at dksX1_look_0 0 rfl rfl)
theorem dX1_look_1 : decode cX1_look 1 = .ok (.iload_n 1, 1) := dk_27 (dk_at dksX1_look_0 1 rfl rfl)
theorem dX1_look_2 : decode cX1_look 2 = .ok (.invokevirtual 300, 3) := dk_182 1 44 (dk_at dksX1_look_0 2 rfl rfl)
theorem dX1_look_5 : decode cX1_look 5 = .ok (.astore_n 3, 1) := dk_78 (dk_at dksX1_look_0 5 rfl rfl)
theorem dX1_look_6 : decode cX1_look 6 = .ok (.iload_n 2, 1) := dk_28 (dk_at dksX1_look_0 6 rfl rfl)
theorem dX1_look_7 : decode cX1_look 7 = .ok (.iconst 0, 1) := dk_3 (dk_at dksX1_look_0 7 rfl rfl)
theorem dX1_look_8 : decode cX1_look 8 = .ok (.iconst 5, 1) := dk_8 (dk_at dksX1_look_0 8 rfl rfl)
theorem dX1_look_9 : decode cX1_look 9 = .ok (.invokestatic 113, 3) := dk_184 0 113 (dk_at dksX1_look_0 9 rfl rfl)
theorem dX1_look_12 : decode cX1_look 12 = .ok (.invokestatic 296, 3) := dk_184 1 40 (dk_at dksX1_look_0 12 rfl rfl)
theorem dX1_look_15 : decode cX1_look 15 = .ok (.iload_n 2, 1) := dk_28 (dk_at dksX1_look_0 15 rfl rfl)
theorem dX1_look_16 : decode cX1_look 16 = .ok (.tableswitch 69 0 4 #[36, 41, 46, 51, 56], 36) := by decide +kernel
theorem dX1_look_52 : decode cX1_look 52 = .ok (.aload_n 3, 1) := dk_45 (dk_at dksX1_look_2 0 rfl rfl)
theorem dX1_look_53 : decode cX1_look 53 = .ok (.getfield 263, 3) := dk_180 1 7 (dk_at dksX1_look_2 1 rfl rfl)
theorem dX1_look_56 : decode cX1_look 56 = .ok (.ireturn, 1) := dk_172 (dk_at dksX1_look_2 4 rfl rfl)
theorem dX1_look_57 : decode cX1_look 57 = .ok (.aload_n 3, 1) := dk_45 (dk_at dksX1_look_2 5 rfl rfl)
theorem dX1_look_58 : decode cX1_look 58 = .ok (.getfield 272, 3) := dk_180 1 16 (dk_at dksX1_look_2 6 rfl rfl)
theorem dX1_look_61 : decode cX1_look 61 = .ok (.ireturn, 1) := dk_172 (dk_at dksX1_look_2 9 rfl rfl)
theorem dX1_look_62 : decode cX1_look 62 = .ok (.aload_n 3, 1) := dk_45 (dk_at dksX1_look_2 10 rfl rfl)
theorem dX1_look_63 : decode cX1_look 63 = .ok (.getfield 223, 3) := dk_180 0 223 (dk_at dksX1_look_2 11 rfl rfl)
theorem dX1_look_66 : decode cX1_look 66 = .ok (.ireturn, 1) := dk_172 (dk_at dksX1_look_2 14 rfl rfl)
theorem dX1_look_67 : decode cX1_look 67 = .ok (.aload_n 3, 1) := dk_45 (dk_at dksX1_look_2 15 rfl rfl)
theorem dX1_look_68 : decode cX1_look 68 = .ok (.getfield 237, 3) := dk_180 0 237 (dk_at dksX1_look_2 16 rfl rfl)
theorem dX1_look_71 : decode cX1_look 71 = .ok (.ireturn, 1) := dk_172 (dk_at dksX1_look_2 19 rfl rfl)
theorem dX1_look_72 : decode cX1_look 72 = .ok (.aload_n 3, 1) := dk_45 (dk_at dksX1_look_2 20 rfl rfl)
theorem dX1_look_73 : decode cX1_look 73 = .ok (.invokevirtual 304, 3) := dk_182 1 48 (dk_at dksX1_look_2 21 rfl rfl)
theorem dX1_look_76 : decode cX1_look 76 = .ok (.ifCond .eq 7, 3) := dk_153 0 7 (dk_at dksX1_look_3 0 rfl rfl)
theorem dX1_look_79 : decode cX1_look 79 = .ok (.iconst 1, 1) := dk_4 (dk_at dksX1_look_3 3 rfl rfl)
theorem dX1_look_80 : decode cX1_look 80 = .ok (.goto 4, 3) := dk_167 0 4 (dk_at dksX1_look_3 4 rfl rfl)
theorem dX1_look_83 : decode cX1_look 83 = .ok (.iconst 0, 1) := dk_3 (dk_at dksX1_look_3 7 rfl rfl)
theorem dX1_look_84 : decode cX1_look 84 = .ok (.ireturn, 1) := dk_172 (dk_at dksX1_look_3 8 rfl rfl)
theorem dX1_look_85 : decode cX1_look 85 = .ok (.aload_n 0, 1) := dk_42 (dk_at dksX1_look_3 9 rfl rfl)
theorem dX1_look_86 : decode cX1_look 86 = .ok (.getfield 46, 3) := dk_180 0 46 (dk_at dksX1_look_3 10 rfl rfl)
theorem dX1_look_89 : decode cX1_look 89 = .ok (.aload_n 3, 1) := dk_45 (dk_at dksX1_look_3 13 rfl rfl)
theorem dX1_look_90 : decode cX1_look 90 = .ok (.getfield 240, 3) := dk_180 0 240 (dk_at dksX1_look_3 14 rfl rfl)
theorem dX1_look_93 : decode cX1_look 93 = .ok (.invokevirtual 307, 3) := dk_182 1 51 (dk_at dksX1_look_3 17 rfl rfl)
theorem dX1_look_96 : decode cX1_look 96 = .ok (.ireturn, 1) := dk_172 (dk_at dksX1_look_3 20 rfl rfl)
abbrev cX1_visitAt : ByteArray := prog_1_method_26_code
def yX1_visitAt : MethodName := ⟨RX1, "visitAt", "(I)LSecretBuyers$Visit;"⟩
def dkwX1_visitAt_2 : List UInt8 := [192, 0, 81, 176]
abbrev dktX1_visitAt_2 : List UInt8 := dkwX1_visitAt_2 ++ []
def dkwX1_visitAt_1 : List UInt8 := [180, 0, 217, 153, 0, 7, 4, 167, 0, 4, 3, 184, 1, 40, 42, 180, 0, 40, 27, 182, 0, 144]
abbrev dktX1_visitAt_1 : List UInt8 := dkwX1_visitAt_1 ++ dktX1_visitAt_2
def dkwX1_visitAt_0 : List UInt8 := [42, 182, 1, 37, 42, 27, 182, 0, 157, 153, 0, 24, 42, 180, 0, 40, 27, 182, 0, 144, 192, 0, 81]
abbrev dktX1_visitAt_0 : List UInt8 := dkwX1_visitAt_0 ++ dktX1_visitAt_1
theorem dksX1_visitAt_0 : cX1_visitAt.data.toList.drop 0 = dktX1_visitAt_0 := by decide +kernel
theorem dksX1_visitAt_1 : cX1_visitAt.data.toList.drop 23 = dktX1_visitAt_1 := dk_seg dksX1_visitAt_0 23 rfl rfl
theorem dksX1_visitAt_2 : cX1_visitAt.data.toList.drop 45 = dktX1_visitAt_2 := dk_seg dksX1_visitAt_1 22 rfl rfl
theorem dX1_visitAt_0 : decode cX1_visitAt 0 = .ok (.aload_n 0, 1) := dk_42 (dk_at dksX1_visitAt_0 0 rfl rfl)
theorem dX1_visitAt_1 : decode cX1_visitAt 1 = .ok (.invokevirtual 293, 3) := dk_182 1 37 (dk_at dksX1_visitAt_0 1 rfl rfl)
theorem dX1_visitAt_4 : decode cX1_visitAt 4 = .ok (.aload_n 0, 1) := dk_42 (dk_at dksX1_visitAt_0 4 rfl rfl)
theorem dX1_visitAt_5 : decode cX1_visitAt 5 = .ok (.iload_n 1, 1) := dk_27 (dk_at dksX1_visitAt_0 5 rfl rfl)
theorem dX1_visitAt_6 : decode cX1_visitAt 6 = .ok (.invokevirtual 157, 3) := dk_182 0 157 (dk_at dksX1_visitAt_0 6 rfl rfl)
theorem dX1_visitAt_9 : decode cX1_visitAt 9 = .ok (.ifCond .eq 24, 3) := dk_153 0 24 (dk_at dksX1_visitAt_0 9 rfl rfl)
theorem dX1_visitAt_12 : decode cX1_visitAt 12 = .ok (.aload_n 0, 1) := dk_42 (dk_at dksX1_visitAt_0 12 rfl rfl)
theorem dX1_visitAt_13 : decode cX1_visitAt 13 = .ok (.getfield 40, 3) := dk_180 0 40 (dk_at dksX1_visitAt_0 13 rfl rfl)
theorem dX1_visitAt_16 : decode cX1_visitAt 16 = .ok (.iload_n 1, 1) := dk_27 (dk_at dksX1_visitAt_0 16 rfl rfl)
theorem dX1_visitAt_17 : decode cX1_visitAt 17 = .ok (.invokevirtual 144, 3) := dk_182 0 144 (dk_at dksX1_visitAt_0 17 rfl rfl)
theorem dX1_visitAt_20 : decode cX1_visitAt 20 = .ok (.checkcast 81, 3) := dk_192 0 81 (dk_at dksX1_visitAt_0 20 rfl rfl)
theorem dX1_visitAt_23 : decode cX1_visitAt 23 = .ok (.getfield 217, 3) := dk_180 0 217 (dk_at dksX1_visitAt_1 0 rfl rfl)
theorem dX1_visitAt_26 : decode cX1_visitAt 26 = .ok (.ifCond .eq 7, 3) := dk_153 0 7 (dk_at dksX1_visitAt_1 3 rfl rfl)
theorem dX1_visitAt_29 : decode cX1_visitAt 29 = .ok (.iconst 1, 1) := dk_4 (dk_at dksX1_visitAt_1 6 rfl rfl)
theorem dX1_visitAt_30 : decode cX1_visitAt 30 = .ok (.goto 4, 3) := dk_167 0 4 (dk_at dksX1_visitAt_1 7 rfl rfl)
theorem dX1_visitAt_33 : decode cX1_visitAt 33 = .ok (.iconst 0, 1) := dk_3 (dk_at dksX1_visitAt_1 10 rfl rfl)
theorem dX1_visitAt_34 : decode cX1_visitAt 34 = .ok (.invokestatic 296, 3) := dk_184 1 40 (dk_at dksX1_visitAt_1 11 rfl rfl)
theorem dX1_visitAt_37 : decode cX1_visitAt 37 = .ok (.aload_n 0, 1) := dk_42 (dk_at dksX1_visitAt_1 14 rfl rfl)
theorem dX1_visitAt_38 : decode cX1_visitAt 38 = .ok (.getfield 40, 3) := dk_180 0 40 (dk_at dksX1_visitAt_1 15 rfl rfl)
theorem dX1_visitAt_41 : decode cX1_visitAt 41 = .ok (.iload_n 1, 1) := dk_27 (dk_at dksX1_visitAt_1 18 rfl rfl)
theorem dX1_visitAt_42 : decode cX1_visitAt 42 = .ok (.invokevirtual 144, 3) := dk_182 0 144 (dk_at dksX1_visitAt_1 19 rfl rfl)
theorem dX1_visitAt_45 : decode cX1_visitAt 45 = .ok (.checkcast 81, 3) := dk_192 0 81 (dk_at dksX1_visitAt_2 0 rfl rfl)
theorem dX1_visitAt_48 : decode cX1_visitAt 48 = .ok (.areturn, 1) := dk_176 (dk_at dksX1_visitAt_2 3 rfl rfl)
abbrev cX1_need : ByteArray := prog_1_method_3_code
def yX1_need : MethodName := ⟨RX1, "need", "(Z)V"⟩
def dkwX1_need_0 : List UInt8 := [26, 154, 0, 11, 187, 0, 107, 89, 183, 0, 109, 191, 177]
abbrev dktX1_need_0 : List UInt8 := dkwX1_need_0 ++ []
theorem dksX1_need_0 : cX1_need.data.toList.drop 0 = dktX1_need_0 := by decide +kernel
theorem dX1_need_0 : decode cX1_need 0 = .ok (.iload_n 0, 1) := dk_26 (dk_at dksX1_need_0 0 rfl rfl)
theorem dX1_need_1 : decode cX1_need 1 = .ok (.ifCond .ne 11, 3) := dk_154 0 11 (dk_at dksX1_need_0 1 rfl rfl)
theorem dX1_need_4 : decode cX1_need 4 = .ok (.new 107, 3) := dk_187 0 107 (dk_at dksX1_need_0 4 rfl rfl)
theorem dX1_need_7 : decode cX1_need 7 = .ok (.dup, 1) := dk_89 (dk_at dksX1_need_0 7 rfl rfl)
theorem dX1_need_8 : decode cX1_need 8 = .ok (.invokespecial 109, 3) := dk_183 0 109 (dk_at dksX1_need_0 8 rfl rfl)
theorem dX1_need_11 : decode cX1_need 11 = .ok (.athrow, 1) := dk_191 (dk_at dksX1_need_0 11 rfl rfl)
theorem dX1_need_12 : decode cX1_need 12 = .ok (.return_, 1) := dk_177 (dk_at dksX1_need_0 12 rfl rfl)
abbrev cX1_fair_2 : ByteArray := prog_1_method_34_code
def yX1_fair_2 : MethodName := ⟨RX1, "fair", "(I)I"⟩
def dkwX1_fair_2_0 : List UInt8 := [42, 42, 27, 182, 1, 44, 182, 1, 61, 172]
abbrev dktX1_fair_2_0 : List UInt8 := dkwX1_fair_2_0 ++ []
theorem dksX1_fair_2_0 : cX1_fair_2.data.toList.drop 0 = dktX1_fair_2_0 := by decide +kernel
theorem dX1_fair_2_0 : decode cX1_fair_2 0 = .ok (.aload_n 0, 1) := dk_42 (dk_at dksX1_fair_2_0 0 rfl rfl)
theorem dX1_fair_2_1 : decode cX1_fair_2 1 = .ok (.aload_n 0, 1) := dk_42 (dk_at dksX1_fair_2_0 1 rfl rfl)
theorem dX1_fair_2_2 : decode cX1_fair_2 2 = .ok (.iload_n 1, 1) := dk_27 (dk_at dksX1_fair_2_0 2 rfl rfl)
theorem dX1_fair_2_3 : decode cX1_fair_2 3 = .ok (.invokevirtual 300, 3) := dk_182 1 44 (dk_at dksX1_fair_2_0 3 rfl rfl)
theorem dX1_fair_2_6 : decode cX1_fair_2 6 = .ok (.invokevirtual 317, 3) := dk_182 1 61 (dk_at dksX1_fair_2_0 6 rfl rfl)
theorem dX1_fair_2_9 : decode cX1_fair_2 9 = .ok (.ireturn, 1) := dk_172 (dk_at dksX1_fair_2_0 9 rfl rfl)
abbrev cX1_lean : ByteArray := prog_1_method_31_code
def yX1_lean : MethodName := ⟨RX1, "lean", "(I)I"⟩
def dkwX1_lean_1 : List UInt8 := [167, 0, 4, 3, 184, 1, 40, 42, 180, 0, 74, 27, 46, 172]
abbrev dktX1_lean_1 : List UInt8 := dkwX1_lean_1 ++ []
def dkwX1_lean_0 : List UInt8 := [42, 182, 1, 37, 42, 27, 182, 0, 141, 153, 0, 17, 42, 180, 0, 78, 27, 46, 4, 164, 0, 7, 4]
abbrev dktX1_lean_0 : List UInt8 := dkwX1_lean_0 ++ dktX1_lean_1
theorem dksX1_lean_0 : cX1_lean.data.toList.drop 0 = dktX1_lean_0 := by decide +kernel
theorem dksX1_lean_1 : cX1_lean.data.toList.drop 23 = dktX1_lean_1 := dk_seg dksX1_lean_0 23 rfl rfl
theorem dX1_lean_0 : decode cX1_lean 0 = .ok (.aload_n 0, 1) := dk_42 (dk_at dksX1_lean_0 0 rfl rfl)
theorem dX1_lean_1 : decode cX1_lean 1 = .ok (.invokevirtual 293, 3) := dk_182 1 37 (dk_at dksX1_lean_0 1 rfl rfl)
theorem dX1_lean_4 : decode cX1_lean 4 = .ok (.aload_n 0, 1) := dk_42 (dk_at dksX1_lean_0 4 rfl rfl)
theorem dX1_lean_5 : decode cX1_lean 5 = .ok (.iload_n 1, 1) := dk_27 (dk_at dksX1_lean_0 5 rfl rfl)
theorem dX1_lean_6 : decode cX1_lean 6 = .ok (.invokevirtual 141, 3) := dk_182 0 141 (dk_at dksX1_lean_0 6 rfl rfl)
theorem dX1_lean_9 : decode cX1_lean 9 = .ok (.ifCond .eq 17, 3) := dk_153 0 17 (dk_at dksX1_lean_0 9 rfl rfl)
theorem dX1_lean_12 : decode cX1_lean 12 = .ok (.aload_n 0, 1) := dk_42 (dk_at dksX1_lean_0 12 rfl rfl)
theorem dX1_lean_13 : decode cX1_lean 13 = .ok (.getfield 78, 3) := dk_180 0 78 (dk_at dksX1_lean_0 13 rfl rfl)
theorem dX1_lean_16 : decode cX1_lean 16 = .ok (.iload_n 1, 1) := dk_27 (dk_at dksX1_lean_0 16 rfl rfl)
theorem dX1_lean_17 : decode cX1_lean 17 = .ok (.iaload, 1) := dk_46 (dk_at dksX1_lean_0 17 rfl rfl)
theorem dX1_lean_18 : decode cX1_lean 18 = .ok (.iconst 1, 1) := dk_4 (dk_at dksX1_lean_0 18 rfl rfl)
theorem dX1_lean_19 : decode cX1_lean 19 = .ok (.if_icmp .le 7, 3) := dk_164 0 7 (dk_at dksX1_lean_0 19 rfl rfl)
theorem dX1_lean_22 : decode cX1_lean 22 = .ok (.iconst 1, 1) := dk_4 (dk_at dksX1_lean_0 22 rfl rfl)
theorem dX1_lean_23 : decode cX1_lean 23 = .ok (.goto 4, 3) := dk_167 0 4 (dk_at dksX1_lean_1 0 rfl rfl)
theorem dX1_lean_26 : decode cX1_lean 26 = .ok (.iconst 0, 1) := dk_3 (dk_at dksX1_lean_1 3 rfl rfl)
theorem dX1_lean_27 : decode cX1_lean 27 = .ok (.invokestatic 296, 3) := dk_184 1 40 (dk_at dksX1_lean_1 4 rfl rfl)
theorem dX1_lean_30 : decode cX1_lean 30 = .ok (.aload_n 0, 1) := dk_42 (dk_at dksX1_lean_1 7 rfl rfl)
theorem dX1_lean_31 : decode cX1_lean 31 = .ok (.getfield 74, 3) := dk_180 0 74 (dk_at dksX1_lean_1 8 rfl rfl)
theorem dX1_lean_34 : decode cX1_lean 34 = .ok (.iload_n 1, 1) := dk_27 (dk_at dksX1_lean_1 11 rfl rfl)
theorem dX1_lean_35 : decode cX1_lean 35 = .ok (.iaload, 1) := dk_46 (dk_at dksX1_lean_1 12 rfl rfl)
theorem dX1_lean_36 : decode cX1_lean 36 = .ok (.ireturn, 1) := dk_172 (dk_at dksX1_lean_1 13 rfl rfl)
abbrev cX1_mean : ByteArray := prog_1_method_37_code
def yX1_mean : MethodName := ⟨RX1, "mean", "(III)I"⟩
def dkwX1_mean_2 : List UInt8 := [3, 184, 1, 40, 21, 4, 172]
abbrev dktX1_mean_2 : List UInt8 := dkwX1_mean_2 ++ []
def dkwX1_mean_1 : List UInt8 := [42, 182, 1, 37, 42, 27, 28, 29, 182, 1, 73, 54, 4, 42, 180, 1, 65, 158, 0, 7, 4, 167, 0, 4]
abbrev dktX1_mean_1 : List UInt8 := dkwX1_mean_1 ++ dktX1_mean_2
def dkwX1_mean_0 : List UInt8 := [42, 27, 182, 0, 137, 153, 0, 15, 28, 29, 184, 1, 69, 153, 0, 7, 4, 167, 0, 4, 3, 184, 1, 40]
abbrev dktX1_mean_0 : List UInt8 := dkwX1_mean_0 ++ dktX1_mean_1
theorem dksX1_mean_0 : cX1_mean.data.toList.drop 0 = dktX1_mean_0 := by decide +kernel
theorem dksX1_mean_1 : cX1_mean.data.toList.drop 24 = dktX1_mean_1 := dk_seg dksX1_mean_0 24 rfl rfl
theorem dksX1_mean_2 : cX1_mean.data.toList.drop 48 = dktX1_mean_2 := dk_seg dksX1_mean_1 24 rfl rfl
theorem dX1_mean_0 : decode cX1_mean 0 = .ok (.aload_n 0, 1) := dk_42 (dk_at dksX1_mean_0 0 rfl rfl)
theorem dX1_mean_1 : decode cX1_mean 1 = .ok (.iload_n 1, 1) := dk_27 (dk_at dksX1_mean_0 1 rfl rfl)
theorem dX1_mean_2 : decode cX1_mean 2 = .ok (.invokevirtual 137, 3) := dk_182 0 137 (dk_at dksX1_mean_0 2 rfl rfl)
theorem dX1_mean_5 : decode cX1_mean 5 = .ok (.ifCond .eq 15, 3) := dk_153 0 15 (dk_at dksX1_mean_0 5 rfl rfl)
theorem dX1_mean_8 : decode cX1_mean 8 = .ok (.iload_n 2, 1) := dk_28 (dk_at dksX1_mean_0 8 rfl rfl)
theorem dX1_mean_9 : decode cX1_mean 9 = .ok (.iload_n 3, 1) := dk_29 (dk_at dksX1_mean_0 9 rfl rfl)
theorem dX1_mean_10 : decode cX1_mean 10 = .ok (.invokestatic 325, 3) := dk_184 1 69 (dk_at dksX1_mean_0 10 rfl rfl)
theorem dX1_mean_13 : decode cX1_mean 13 = .ok (.ifCond .eq 7, 3) := dk_153 0 7 (dk_at dksX1_mean_0 13 rfl rfl)
theorem dX1_mean_16 : decode cX1_mean 16 = .ok (.iconst 1, 1) := dk_4 (dk_at dksX1_mean_0 16 rfl rfl)
theorem dX1_mean_17 : decode cX1_mean 17 = .ok (.goto 4, 3) := dk_167 0 4 (dk_at dksX1_mean_0 17 rfl rfl)
theorem dX1_mean_20 : decode cX1_mean 20 = .ok (.iconst 0, 1) := dk_3 (dk_at dksX1_mean_0 20 rfl rfl)
theorem dX1_mean_21 : decode cX1_mean 21 = .ok (.invokestatic 296, 3) := dk_184 1 40 (dk_at dksX1_mean_0 21 rfl rfl)
theorem dX1_mean_24 : decode cX1_mean 24 = .ok (.aload_n 0, 1) := dk_42 (dk_at dksX1_mean_1 0 rfl rfl)
theorem dX1_mean_25 : decode cX1_mean 25 = .ok (.invokevirtual 293, 3) := dk_182 1 37 (dk_at dksX1_mean_1 1 rfl rfl)
theorem dX1_mean_28 : decode cX1_mean 28 = .ok (.aload_n 0, 1) := dk_42 (dk_at dksX1_mean_1 4 rfl rfl)
theorem dX1_mean_29 : decode cX1_mean 29 = .ok (.iload_n 1, 1) := dk_27 (dk_at dksX1_mean_1 5 rfl rfl)
theorem dX1_mean_30 : decode cX1_mean 30 = .ok (.iload_n 2, 1) := dk_28 (dk_at dksX1_mean_1 6 rfl rfl)
theorem dX1_mean_31 : decode cX1_mean 31 = .ok (.iload_n 3, 1) := dk_29 (dk_at dksX1_mean_1 7 rfl rfl)
theorem dX1_mean_32 : decode cX1_mean 32 = .ok (.invokevirtual 329, 3) := dk_182 1 73 (dk_at dksX1_mean_1 8 rfl rfl)
theorem dX1_mean_35 : decode cX1_mean 35 = .ok (.istore 4, 2) := dk_54 4 (dk_at dksX1_mean_1 11 rfl rfl)
theorem dX1_mean_37 : decode cX1_mean 37 = .ok (.aload_n 0, 1) := dk_42 (dk_at dksX1_mean_1 13 rfl rfl)
theorem dX1_mean_38 : decode cX1_mean 38 = .ok (.getfield 321, 3) := dk_180 1 65 (dk_at dksX1_mean_1 14 rfl rfl)
theorem dX1_mean_41 : decode cX1_mean 41 = .ok (.ifCond .le 7, 3) := dk_158 0 7 (dk_at dksX1_mean_1 17 rfl rfl)
theorem dX1_mean_44 : decode cX1_mean 44 = .ok (.iconst 1, 1) := dk_4 (dk_at dksX1_mean_1 20 rfl rfl)
theorem dX1_mean_45 : decode cX1_mean 45 = .ok (.goto 4, 3) := dk_167 0 4 (dk_at dksX1_mean_1 21 rfl rfl)
theorem dX1_mean_48 : decode cX1_mean 48 = .ok (.iconst 0, 1) := dk_3 (dk_at dksX1_mean_2 0 rfl rfl)
theorem dX1_mean_49 : decode cX1_mean 49 = .ok (.invokestatic 296, 3) := dk_184 1 40 (dk_at dksX1_mean_2 1 rfl rfl)
theorem dX1_mean_52 : decode cX1_mean 52 = .ok (.iload 4, 2) := dk_21 4 (dk_at dksX1_mean_2 4 rfl rfl)
theorem dX1_mean_54 : decode cX1_mean 54 = .ok (.ireturn, 1) := dk_172 (dk_at dksX1_mean_2 6 rfl rfl)
theorem q94 : (Jvm.Cond.initialized "SecretBuyers") ∈ lw_all := lw_g (lw_at lw_m1 1 rfl) rfl
theorem q135 : (Jvm.Cond.instantiable "SecretBuyers" (29 : Nat)) ∈ lw_all := lw_g (lw_at lw_m1 42 rfl) rfl
theorem q137 : (Jvm.Cond.instanceMethod ({ cls := "SecretBuyers", name := "<init>", desc := "()V" } : Jvm.MethodName)) ∈ lw_all := lw_g (lw_at lw_m1 44 rfl) rfl
theorem q138 : (Jvm.Cond.code ({ cls := "SecretBuyers", name := "<init>", desc := "()V" } : Jvm.MethodName) prog_1_method_2_code (1 : Nat) (Option.none : Option Jvm.ClassFile.FieldType)) ∈ lw_all := lw_g (lw_at lw_m1 45 rfl) rfl
theorem q139 : (Jvm.Cond.methodLink "SecretBuyers" (1 : Nat) ({ cls := "java/lang/Object", name := "<init>", desc := "()V" } : Jvm.MethodName)) ∈ lw_all := lw_g (lw_at lw_m1 46 rfl) rfl
theorem q142 : (Jvm.Cond.classLink "SecretBuyers" (28 : Nat) "java/util/ArrayList") ∈ lw_all := lw_g (lw_at lw_m1 49 rfl) rfl
theorem q144 : (Jvm.Cond.methodLink "SecretBuyers" (30 : Nat) ({ cls := "java/util/ArrayList", name := "<init>", desc := "(I)V" } : Jvm.MethodName)) ∈ lw_all := lw_g (lw_at lw_m1 51 rfl) rfl
theorem q170 : (Jvm.Cond.classLink "SecretBuyers" (53 : Nat) "SecretBuyers$Reader") ∈ lw_all := lw_g (lw_at lw_m1 77 rfl) rfl
theorem q172 : (Jvm.Cond.methodLinkNest "SecretBuyers" (55 : Nat) ({ cls := "SecretBuyers$Reader", name := "<init>", desc := "()V" } : Jvm.MethodName) "SecretBuyers") ∈ lw_tbl := lw_at lw_m1 79 rfl
theorem q211 : (Jvm.Cond.classLink "SecretBuyers" (60 : Nat) "SecretBuyers$Ask") ∈ lw_all := lw_g (lw_at lw_m1 118 rfl) rfl
theorem q213 : (Jvm.Cond.methodLinkNest "SecretBuyers" (62 : Nat) ({ cls := "SecretBuyers$Ask", name := "<init>", desc := "()V" } : Jvm.MethodName) "SecretBuyers") ∈ lw_tbl := lw_at lw_m1 120 rfl
theorem q228 : (Jvm.Cond.classLink "SecretBuyers" (81 : Nat) "SecretBuyers$Visit") ∈ lw_all := lw_g (lw_at lw_m1 135 rfl) rfl
theorem q230 : (Jvm.Cond.classLink "SecretBuyers" (93 : Nat) "[[I") ∈ lw_all := lw_g (lw_at lw_m1 137 rfl) rfl
theorem q232 : (Jvm.Cond.classLink "SecretBuyers" (98 : Nat) "SecretBuyers$Shop") ∈ lw_all := lw_g (lw_at lw_m1 139 rfl) rfl
theorem q234 : (Jvm.Cond.fieldLink "SecretBuyers" (110 : Nat) "SecretBuyers" "now" "I") ∈ lw_all := lw_g (lw_at lw_m1 141 rfl) rfl
theorem q235 : (Jvm.Cond.fieldLink "SecretBuyers" (9 : Nat) "SecretBuyers" "viewed" "I") ∈ lw_all := lw_g (lw_at lw_m1 142 rfl) rfl
theorem q236 : (Jvm.Cond.fieldLink "SecretBuyers" (175 : Nat) "SecretBuyers" "taped" "I") ∈ lw_all := lw_g (lw_at lw_m1 143 rfl) rfl
theorem q237 : (Jvm.Cond.fieldLink "SecretBuyers" (13 : Nat) "SecretBuyers" "pace" "I") ∈ lw_all := lw_g (lw_at lw_m1 144 rfl) rfl
theorem q238 : (Jvm.Cond.fieldLink "SecretBuyers" (16 : Nat) "SecretBuyers" "fee" "I") ∈ lw_all := lw_g (lw_at lw_m1 145 rfl) rfl
theorem q239 : (Jvm.Cond.fieldLink "SecretBuyers" (19 : Nat) "SecretBuyers" "spread" "I") ∈ lw_all := lw_g (lw_at lw_m1 146 rfl) rfl
theorem q240 : (Jvm.Cond.fieldLink "SecretBuyers" (22 : Nat) "SecretBuyers" "rest" "I") ∈ lw_all := lw_g (lw_at lw_m1 147 rfl) rfl
theorem q241 : (Jvm.Cond.fieldLink "SecretBuyers" (25 : Nat) "SecretBuyers" "reach" "I") ∈ lw_all := lw_g (lw_at lw_m1 148 rfl) rfl
theorem q242 : (Jvm.Cond.fieldLink "SecretBuyers" (33 : Nat) "SecretBuyers" "shops" "Ljava/util/ArrayList;") ∈ lw_all := lw_g (lw_at lw_m1 149 rfl) rfl
theorem q243 : (Jvm.Cond.fieldLink "SecretBuyers" (37 : Nat) "SecretBuyers" "buyers" "Ljava/util/ArrayList;") ∈ lw_all := lw_g (lw_at lw_m1 150 rfl) rfl
theorem q244 : (Jvm.Cond.fieldLink "SecretBuyers" (40 : Nat) "SecretBuyers" "visits" "Ljava/util/ArrayList;") ∈ lw_all := lw_g (lw_at lw_m1 151 rfl) rfl
theorem q245 : (Jvm.Cond.fieldLink "SecretBuyers" (43 : Nat) "SecretBuyers" "appeals" "Ljava/util/ArrayList;") ∈ lw_all := lw_g (lw_at lw_m1 152 rfl) rfl
theorem q246 : (Jvm.Cond.fieldLink "SecretBuyers" (46 : Nat) "SecretBuyers" "briefs" "Ljava/util/ArrayList;") ∈ lw_all := lw_g (lw_at lw_m1 153 rfl) rfl
theorem q247 : (Jvm.Cond.fieldLink "SecretBuyers" (49 : Nat) "SecretBuyers" "tape" "[B") ∈ lw_all := lw_g (lw_at lw_m1 154 rfl) rfl
theorem q248 : (Jvm.Cond.fieldLink "SecretBuyers" (56 : Nat) "SecretBuyers" "reader" "LSecretBuyers$Reader;") ∈ lw_all := lw_g (lw_at lw_m1 155 rfl) rfl
theorem q249 : (Jvm.Cond.fieldLink "SecretBuyers" (63 : Nat) "SecretBuyers" "ask" "LSecretBuyers$Ask;") ∈ lw_all := lw_g (lw_at lw_m1 156 rfl) rfl
theorem q250 : (Jvm.Cond.fieldLink "SecretBuyers" (67 : Nat) "SecretBuyers" "isOld" "Z") ∈ lw_all := lw_g (lw_at lw_m1 157 rfl) rfl
theorem q251 : (Jvm.Cond.fieldLink "SecretBuyers" (71 : Nat) "SecretBuyers" "seen" "Ljava/util/ArrayList;") ∈ lw_all := lw_g (lw_at lw_m1 158 rfl) rfl
theorem q252 : (Jvm.Cond.fieldLink "SecretBuyers" (74 : Nat) "SecretBuyers" "lean" "[I") ∈ lw_all := lw_g (lw_at lw_m1 159 rfl) rfl
theorem q253 : (Jvm.Cond.fieldLink "SecretBuyers" (78 : Nat) "SecretBuyers" "met" "[I") ∈ lw_all := lw_g (lw_at lw_m1 160 rfl) rfl
theorem q254 : (Jvm.Cond.fieldLink "SecretBuyers" (83 : Nat) "SecretBuyers" "some" "[LSecretBuyers$Visit;") ∈ lw_all := lw_g (lw_at lw_m1 161 rfl) rfl
theorem q255 : (Jvm.Cond.fieldLink "SecretBuyers" (87 : Nat) "SecretBuyers" "against" "[I") ∈ lw_all := lw_g (lw_at lw_m1 162 rfl) rfl
theorem q256 : (Jvm.Cond.fieldLink "SecretBuyers" (274 : Nat) "SecretBuyers" "many" "I") ∈ lw_all := lw_g (lw_at lw_m1 163 rfl) rfl
theorem q257 : (Jvm.Cond.fieldLink "SecretBuyers" (290 : Nat) "SecretBuyers" "theSet" "I") ∈ lw_all := lw_g (lw_at lw_m1 164 rfl) rfl
theorem q258 : (Jvm.Cond.fieldLink "SecretBuyers" (321 : Nat) "SecretBuyers" "of" "I") ∈ lw_all := lw_g (lw_at lw_m1 165 rfl) rfl
theorem q259 : (Jvm.Cond.fieldLink "SecretBuyers" (90 : Nat) "SecretBuyers" "rows" "[I") ∈ lw_all := lw_g (lw_at lw_m1 166 rfl) rfl
theorem q260 : (Jvm.Cond.fieldLink "SecretBuyers" (95 : Nat) "SecretBuyers" "least" "[[I") ∈ lw_all := lw_g (lw_at lw_m1 167 rfl) rfl
theorem q261 : (Jvm.Cond.fieldLink "SecretBuyers" (100 : Nat) "SecretBuyers" "wanted" "[LSecretBuyers$Shop;") ∈ lw_all := lw_g (lw_at lw_m1 168 rfl) rfl
theorem q262 : (Jvm.Cond.fieldLink "SecretBuyers" (104 : Nat) "SecretBuyers" "power" "[I") ∈ lw_all := lw_g (lw_at lw_m1 169 rfl) rfl
theorem q263 : (Jvm.Cond.lays "SecretBuyers" "SecretBuyers" "now" "I") ∈ lw_all := lw_g (lw_at lw_m1 170 rfl) rfl
theorem q264 : (Jvm.Cond.soleField "SecretBuyers" "now") ∈ lw_all := lw_g (lw_at lw_m1 171 rfl) rfl
theorem q265 : (Jvm.Cond.lays "SecretBuyers" "SecretBuyers" "viewed" "I") ∈ lw_all := lw_g (lw_at lw_m1 172 rfl) rfl
theorem q266 : (Jvm.Cond.soleField "SecretBuyers" "viewed") ∈ lw_all := lw_g (lw_at lw_m1 173 rfl) rfl
theorem q267 : (Jvm.Cond.lays "SecretBuyers" "SecretBuyers" "taped" "I") ∈ lw_all := lw_g (lw_at lw_m1 174 rfl) rfl
theorem q268 : (Jvm.Cond.soleField "SecretBuyers" "taped") ∈ lw_all := lw_g (lw_at lw_m1 175 rfl) rfl
theorem q269 : (Jvm.Cond.lays "SecretBuyers" "SecretBuyers" "pace" "I") ∈ lw_all := lw_g (lw_at lw_m1 176 rfl) rfl
theorem q270 : (Jvm.Cond.soleField "SecretBuyers" "pace") ∈ lw_all := lw_g (lw_at lw_m1 177 rfl) rfl
theorem q271 : (Jvm.Cond.lays "SecretBuyers" "SecretBuyers" "fee" "I") ∈ lw_all := lw_g (lw_at lw_m1 178 rfl) rfl
theorem q272 : (Jvm.Cond.soleField "SecretBuyers" "fee") ∈ lw_all := lw_g (lw_at lw_m1 179 rfl) rfl
theorem q273 : (Jvm.Cond.lays "SecretBuyers" "SecretBuyers" "spread" "I") ∈ lw_all := lw_g (lw_at lw_m1 180 rfl) rfl
theorem q274 : (Jvm.Cond.soleField "SecretBuyers" "spread") ∈ lw_all := lw_g (lw_at lw_m1 181 rfl) rfl
theorem q275 : (Jvm.Cond.lays "SecretBuyers" "SecretBuyers" "rest" "I") ∈ lw_all := lw_g (lw_at lw_m1 182 rfl) rfl
theorem q276 : (Jvm.Cond.soleField "SecretBuyers" "rest") ∈ lw_all := lw_g (lw_at lw_m1 183 rfl) rfl
theorem q277 : (Jvm.Cond.lays "SecretBuyers" "SecretBuyers" "reach" "I") ∈ lw_all := lw_g (lw_at lw_m1 184 rfl) rfl
theorem q278 : (Jvm.Cond.soleField "SecretBuyers" "reach") ∈ lw_all := lw_g (lw_at lw_m1 185 rfl) rfl
theorem q279 : (Jvm.Cond.laysFinal "SecretBuyers" "SecretBuyers" "shops" "Ljava/util/ArrayList;") ∈ lw_all := lw_g (lw_at lw_m1 186 rfl) rfl
theorem q280 : (Jvm.Cond.soleField "SecretBuyers" "shops") ∈ lw_all := lw_g (lw_at lw_m1 187 rfl) rfl
theorem q281 : (Jvm.Cond.laysFinal "SecretBuyers" "SecretBuyers" "buyers" "Ljava/util/ArrayList;") ∈ lw_all := lw_g (lw_at lw_m1 188 rfl) rfl
theorem q282 : (Jvm.Cond.soleField "SecretBuyers" "buyers") ∈ lw_all := lw_g (lw_at lw_m1 189 rfl) rfl
theorem q283 : (Jvm.Cond.laysFinal "SecretBuyers" "SecretBuyers" "visits" "Ljava/util/ArrayList;") ∈ lw_all := lw_g (lw_at lw_m1 190 rfl) rfl
theorem q284 : (Jvm.Cond.soleField "SecretBuyers" "visits") ∈ lw_all := lw_g (lw_at lw_m1 191 rfl) rfl
theorem q285 : (Jvm.Cond.laysFinal "SecretBuyers" "SecretBuyers" "appeals" "Ljava/util/ArrayList;") ∈ lw_all := lw_g (lw_at lw_m1 192 rfl) rfl
theorem q286 : (Jvm.Cond.soleField "SecretBuyers" "appeals") ∈ lw_all := lw_g (lw_at lw_m1 193 rfl) rfl
theorem q287 : (Jvm.Cond.laysFinal "SecretBuyers" "SecretBuyers" "briefs" "Ljava/util/ArrayList;") ∈ lw_all := lw_g (lw_at lw_m1 194 rfl) rfl
theorem q288 : (Jvm.Cond.soleField "SecretBuyers" "briefs") ∈ lw_all := lw_g (lw_at lw_m1 195 rfl) rfl
theorem q289 : (Jvm.Cond.laysFinal "SecretBuyers" "SecretBuyers" "tape" "[B") ∈ lw_all := lw_g (lw_at lw_m1 196 rfl) rfl
theorem q290 : (Jvm.Cond.soleField "SecretBuyers" "tape") ∈ lw_all := lw_g (lw_at lw_m1 197 rfl) rfl
theorem q291 : (Jvm.Cond.laysFinal "SecretBuyers" "SecretBuyers" "reader" "LSecretBuyers$Reader;") ∈ lw_all := lw_g (lw_at lw_m1 198 rfl) rfl
theorem q292 : (Jvm.Cond.soleField "SecretBuyers" "reader") ∈ lw_all := lw_g (lw_at lw_m1 199 rfl) rfl
theorem q293 : (Jvm.Cond.laysFinal "SecretBuyers" "SecretBuyers" "ask" "LSecretBuyers$Ask;") ∈ lw_all := lw_g (lw_at lw_m1 200 rfl) rfl
theorem q294 : (Jvm.Cond.soleField "SecretBuyers" "ask") ∈ lw_all := lw_g (lw_at lw_m1 201 rfl) rfl
theorem q295 : (Jvm.Cond.lays "SecretBuyers" "SecretBuyers" "isOld" "Z") ∈ lw_all := lw_g (lw_at lw_m1 202 rfl) rfl
theorem q296 : (Jvm.Cond.soleField "SecretBuyers" "isOld") ∈ lw_all := lw_g (lw_at lw_m1 203 rfl) rfl
theorem q297 : (Jvm.Cond.laysFinal "SecretBuyers" "SecretBuyers" "seen" "Ljava/util/ArrayList;") ∈ lw_all := lw_g (lw_at lw_m1 204 rfl) rfl
theorem q298 : (Jvm.Cond.soleField "SecretBuyers" "seen") ∈ lw_all := lw_g (lw_at lw_m1 205 rfl) rfl
theorem q299 : (Jvm.Cond.laysFinal "SecretBuyers" "SecretBuyers" "lean" "[I") ∈ lw_all := lw_g (lw_at lw_m1 206 rfl) rfl
theorem q300 : (Jvm.Cond.soleField "SecretBuyers" "lean") ∈ lw_all := lw_g (lw_at lw_m1 207 rfl) rfl
theorem q301 : (Jvm.Cond.laysFinal "SecretBuyers" "SecretBuyers" "met" "[I") ∈ lw_all := lw_g (lw_at lw_m1 208 rfl) rfl
theorem q302 : (Jvm.Cond.soleField "SecretBuyers" "met") ∈ lw_all := lw_g (lw_at lw_m1 209 rfl) rfl
theorem q303 : (Jvm.Cond.laysFinal "SecretBuyers" "SecretBuyers" "some" "[LSecretBuyers$Visit;") ∈ lw_all := lw_g (lw_at lw_m1 210 rfl) rfl
theorem q304 : (Jvm.Cond.soleField "SecretBuyers" "some") ∈ lw_all := lw_g (lw_at lw_m1 211 rfl) rfl
theorem q305 : (Jvm.Cond.laysFinal "SecretBuyers" "SecretBuyers" "against" "[I") ∈ lw_all := lw_g (lw_at lw_m1 212 rfl) rfl
theorem q306 : (Jvm.Cond.soleField "SecretBuyers" "against") ∈ lw_all := lw_g (lw_at lw_m1 213 rfl) rfl
theorem q307 : (Jvm.Cond.lays "SecretBuyers" "SecretBuyers" "many" "I") ∈ lw_all := lw_g (lw_at lw_m1 214 rfl) rfl
theorem q308 : (Jvm.Cond.soleField "SecretBuyers" "many") ∈ lw_all := lw_g (lw_at lw_m1 215 rfl) rfl
theorem q309 : (Jvm.Cond.lays "SecretBuyers" "SecretBuyers" "theSet" "I") ∈ lw_all := lw_g (lw_at lw_m1 216 rfl) rfl
theorem q310 : (Jvm.Cond.soleField "SecretBuyers" "theSet") ∈ lw_all := lw_g (lw_at lw_m1 217 rfl) rfl
theorem q311 : (Jvm.Cond.lays "SecretBuyers" "SecretBuyers" "of" "I") ∈ lw_all := lw_g (lw_at lw_m1 218 rfl) rfl
theorem q312 : (Jvm.Cond.soleField "SecretBuyers" "of") ∈ lw_all := lw_g (lw_at lw_m1 219 rfl) rfl
theorem q313 : (Jvm.Cond.laysFinal "SecretBuyers" "SecretBuyers" "rows" "[I") ∈ lw_all := lw_g (lw_at lw_m1 220 rfl) rfl
theorem q314 : (Jvm.Cond.soleField "SecretBuyers" "rows") ∈ lw_all := lw_g (lw_at lw_m1 221 rfl) rfl
theorem q315 : (Jvm.Cond.laysFinal "SecretBuyers" "SecretBuyers" "least" "[[I") ∈ lw_all := lw_g (lw_at lw_m1 222 rfl) rfl
theorem q316 : (Jvm.Cond.soleField "SecretBuyers" "least") ∈ lw_all := lw_g (lw_at lw_m1 223 rfl) rfl
theorem q317 : (Jvm.Cond.laysFinal "SecretBuyers" "SecretBuyers" "wanted" "[LSecretBuyers$Shop;") ∈ lw_all := lw_g (lw_at lw_m1 224 rfl) rfl
theorem q318 : (Jvm.Cond.soleField "SecretBuyers" "wanted") ∈ lw_all := lw_g (lw_at lw_m1 225 rfl) rfl
theorem q319 : (Jvm.Cond.laysFinal "SecretBuyers" "SecretBuyers" "power" "[I") ∈ lw_all := lw_g (lw_at lw_m1 226 rfl) rfl
theorem q320 : (Jvm.Cond.soleField "SecretBuyers" "power") ∈ lw_all := lw_g (lw_at lw_m1 227 rfl) rfl
theorem q321 : (Jvm.Cond.superclass "SecretBuyers" "java/lang/Object") ∈ lw_all := lw_g (lw_at lw_m1 228 rfl) rfl
theorem q323 : (Jvm.Cond.instanceMethod ({ cls := "SecretBuyers", name := "days", desc := "(I)I" } : Jvm.MethodName)) ∈ lw_all := lw_g (lw_at lw_m1 230 rfl) rfl
theorem q324 : (Jvm.Cond.selects "SecretBuyers" ({ cls := "SecretBuyers", name := "days", desc := "(I)I" } : Jvm.MethodName) ({ cls := "SecretBuyers", name := "days", desc := "(I)I" } : Jvm.MethodName)) ∈ lw_all := lw_g (lw_at lw_m1 231 rfl) rfl
theorem q325 : (Jvm.Cond.code ({ cls := "SecretBuyers", name := "days", desc := "(I)I" } : Jvm.MethodName) prog_1_method_6_code (2 : Nat) (Option.some Jvm.ClassFile.FieldType.int)) ∈ lw_all := lw_g (lw_at lw_m1 232 rfl) rfl
theorem q326 : (Jvm.Cond.methodLink "SecretBuyers" (113 : Nat) ({ cls := "SecretBuyers", name := "in", desc := "(III)Z" } : Jvm.MethodName)) ∈ lw_all := lw_g (lw_at lw_m1 233 rfl) rfl
theorem q327 : (Jvm.Cond.static ({ cls := "SecretBuyers", name := "in", desc := "(III)Z" } : Jvm.MethodName)) ∈ lw_all := lw_g (lw_at lw_m1 234 rfl) rfl
theorem q328 : (Jvm.Cond.code ({ cls := "SecretBuyers", name := "in", desc := "(III)Z" } : Jvm.MethodName) prog_1_method_1_code (3 : Nat) (Option.some Jvm.ClassFile.FieldType.boolean)) ∈ lw_all := lw_g (lw_at lw_m1 235 rfl) rfl
theorem q329 : (Jvm.Cond.methodLink "SecretBuyers" (117 : Nat) ({ cls := "SecretBuyers", name := "changed", desc := "()Z" } : Jvm.MethodName)) ∈ lw_all := lw_g (lw_at lw_m1 236 rfl) rfl
theorem q330 : (Jvm.Cond.privateMethod ({ cls := "SecretBuyers", name := "changed", desc := "()Z" } : Jvm.MethodName)) ∈ lw_tbl := lw_at lw_m1 237 rfl
theorem q331 : (Jvm.Cond.instanceMethod ({ cls := "SecretBuyers", name := "changed", desc := "()Z" } : Jvm.MethodName)) ∈ lw_all := lw_g (lw_at lw_m1 238 rfl) rfl
theorem q332 : (Jvm.Cond.code ({ cls := "SecretBuyers", name := "changed", desc := "()Z" } : Jvm.MethodName) prog_1_method_5_code (1 : Nat) (Option.some Jvm.ClassFile.FieldType.boolean)) ∈ lw_all := lw_g (lw_at lw_m1 239 rfl) rfl
theorem q334 : (Jvm.Cond.instanceMethod ({ cls := "SecretBuyers", name := "view", desc := "(I)Z" } : Jvm.MethodName)) ∈ lw_all := lw_g (lw_at lw_m2 1 rfl) rfl
theorem q335 : (Jvm.Cond.selects "SecretBuyers" ({ cls := "SecretBuyers", name := "view", desc := "(I)Z" } : Jvm.MethodName) ({ cls := "SecretBuyers", name := "view", desc := "(I)Z" } : Jvm.MethodName)) ∈ lw_all := lw_g (lw_at lw_m2 2 rfl) rfl
theorem q336 : (Jvm.Cond.code ({ cls := "SecretBuyers", name := "view", desc := "(I)Z" } : Jvm.MethodName) prog_1_method_7_code (2 : Nat) (Option.some Jvm.ClassFile.FieldType.boolean)) ∈ lw_all := lw_g (lw_at lw_m2 3 rfl) rfl
theorem q338 : (Jvm.Cond.instanceMethod ({ cls := "SecretBuyers", name := "shop", desc := "(IIIIIZ)I" } : Jvm.MethodName)) ∈ lw_all := lw_g (lw_at lw_m2 5 rfl) rfl
theorem q339 : (Jvm.Cond.selects "SecretBuyers" ({ cls := "SecretBuyers", name := "shop", desc := "(IIIIIZ)I" } : Jvm.MethodName) ({ cls := "SecretBuyers", name := "shop", desc := "(IIIIIZ)I" } : Jvm.MethodName)) ∈ lw_all := lw_g (lw_at lw_m2 6 rfl) rfl
theorem q340 : (Jvm.Cond.code ({ cls := "SecretBuyers", name := "shop", desc := "(IIIIIZ)I" } : Jvm.MethodName) prog_1_method_8_code (7 : Nat) (Option.some Jvm.ClassFile.FieldType.int)) ∈ lw_all := lw_g (lw_at lw_m2 7 rfl) rfl
theorem q341 : (Jvm.Cond.methodLink "SecretBuyers" (121 : Nat) ({ cls := "java/util/ArrayList", name := "size", desc := "()I" } : Jvm.MethodName)) ∈ lw_all := lw_g (lw_at lw_m2 8 rfl) rfl
theorem q346 : (Jvm.Cond.classLink "SecretBuyers" (125 : Nat) "SecretBuyers$Place") ∈ lw_all := lw_g (lw_at lw_m2 13 rfl) rfl
theorem q348 : (Jvm.Cond.methodLink "SecretBuyers" (127 : Nat) ({ cls := "SecretBuyers$Place", name := "<init>", desc := "(II)V" } : Jvm.MethodName)) ∈ lw_all := lw_g (lw_at lw_m2 15 rfl) rfl
theorem q359 : (Jvm.Cond.methodLink "SecretBuyers" (130 : Nat) ({ cls := "SecretBuyers$Shop", name := "<init>", desc := "(ILSecretBuyers$Place;IIIZ)V" } : Jvm.MethodName)) ∈ lw_all := lw_g (lw_at lw_m2 26 rfl) rfl
theorem q364 : (Jvm.Cond.fieldLinkNest "SecretBuyers" (324 : Nat) "SecretBuyers$Shop" "number" "I" "SecretBuyers") ∈ lw_tbl := lw_at lw_m2 31 rfl
theorem q366 : (Jvm.Cond.fieldLinkNest "SecretBuyers" (250 : Nat) "SecretBuyers$Shop" "chain" "I" "SecretBuyers") ∈ lw_tbl := lw_at lw_m2 33 rfl
theorem q373 : (Jvm.Cond.fieldLinkNest "SecretBuyers" (349 : Nat) "SecretBuyers$Shop" "place" "LSecretBuyers$Place;" "SecretBuyers") ∈ lw_tbl := lw_at lw_m2 40 rfl
theorem q375 : (Jvm.Cond.fieldLinkNest "SecretBuyers" (164 : Nat) "SecretBuyers$Shop" "records" "Z" "SecretBuyers") ∈ lw_tbl := lw_at lw_m2 42 rfl
theorem q389 : (Jvm.Cond.methodLink "SecretBuyers" (133 : Nat) ({ cls := "java/util/ArrayList", name := "add", desc := "(Ljava/lang/Object;)Z" } : Jvm.MethodName)) ∈ lw_all := lw_g (lw_at lw_m2 56 rfl) rfl
theorem q423 : (Jvm.Cond.selects "SecretBuyers" ({ cls := "java/lang/Object", name := "getClass", desc := "()Ljava/lang/Class;" } : Jvm.MethodName) ({ cls := "java/lang/Object", name := "getClass", desc := "()Ljava/lang/Class;" } : Jvm.MethodName)) ∈ lw_all := lw_g (lw_at lw_m2 90 rfl) rfl
theorem q459 : (Jvm.Cond.instanceMethod ({ cls := "SecretBuyers", name := "buyer", desc := "(II)I" } : Jvm.MethodName)) ∈ lw_all := lw_g (lw_at lw_m2 126 rfl) rfl
theorem q460 : (Jvm.Cond.selects "SecretBuyers" ({ cls := "SecretBuyers", name := "buyer", desc := "(II)I" } : Jvm.MethodName) ({ cls := "SecretBuyers", name := "buyer", desc := "(II)I" } : Jvm.MethodName)) ∈ lw_all := lw_g (lw_at lw_m2 127 rfl) rfl
theorem q461 : (Jvm.Cond.code ({ cls := "SecretBuyers", name := "buyer", desc := "(II)I" } : Jvm.MethodName) prog_1_method_9_code (3 : Nat) (Option.some Jvm.ClassFile.FieldType.int)) ∈ lw_all := lw_g (lw_at lw_m2 128 rfl) rfl
theorem q463 : (Jvm.Cond.instanceMethod ({ cls := "SecretBuyers", name := "terms", desc := "(III)Z" } : Jvm.MethodName)) ∈ lw_all := lw_g (lw_at lw_m2 130 rfl) rfl
theorem q464 : (Jvm.Cond.selects "SecretBuyers" ({ cls := "SecretBuyers", name := "terms", desc := "(III)Z" } : Jvm.MethodName) ({ cls := "SecretBuyers", name := "terms", desc := "(III)Z" } : Jvm.MethodName)) ∈ lw_all := lw_g (lw_at lw_m2 131 rfl) rfl
theorem q465 : (Jvm.Cond.code ({ cls := "SecretBuyers", name := "terms", desc := "(III)Z" } : Jvm.MethodName) prog_1_method_10_code (4 : Nat) (Option.some Jvm.ClassFile.FieldType.boolean)) ∈ lw_all := lw_g (lw_at lw_m2 132 rfl) rfl
theorem q467 : (Jvm.Cond.instanceMethod ({ cls := "SecretBuyers", name := "rest", desc := "(II)Z" } : Jvm.MethodName)) ∈ lw_all := lw_g (lw_at lw_m2 134 rfl) rfl
theorem q468 : (Jvm.Cond.selects "SecretBuyers" ({ cls := "SecretBuyers", name := "rest", desc := "(II)Z" } : Jvm.MethodName) ({ cls := "SecretBuyers", name := "rest", desc := "(II)Z" } : Jvm.MethodName)) ∈ lw_all := lw_g (lw_at lw_m2 135 rfl) rfl
theorem q469 : (Jvm.Cond.code ({ cls := "SecretBuyers", name := "rest", desc := "(II)Z" } : Jvm.MethodName) prog_1_method_11_code (3 : Nat) (Option.some Jvm.ClassFile.FieldType.boolean)) ∈ lw_all := lw_g (lw_at lw_m2 136 rfl) rfl
theorem q471 : (Jvm.Cond.instanceMethod ({ cls := "SecretBuyers", name := "visit", desc := "(IIIIIII)I" } : Jvm.MethodName)) ∈ lw_all := lw_g (lw_at lw_m2 138 rfl) rfl
theorem q472 : (Jvm.Cond.selects "SecretBuyers" ({ cls := "SecretBuyers", name := "visit", desc := "(IIIIIII)I" } : Jvm.MethodName) ({ cls := "SecretBuyers", name := "visit", desc := "(IIIIIII)I" } : Jvm.MethodName)) ∈ lw_all := lw_g (lw_at lw_m2 139 rfl) rfl
theorem q473 : (Jvm.Cond.code ({ cls := "SecretBuyers", name := "visit", desc := "(IIIIIII)I" } : Jvm.MethodName) prog_1_method_16_code (10 : Nat) (Option.some Jvm.ClassFile.FieldType.int)) ∈ lw_all := lw_g (lw_at lw_m2 140 rfl) rfl
theorem q474 : (Jvm.Cond.methodLink "SecretBuyers" (137 : Nat) ({ cls := "SecretBuyers", name := "isShop", desc := "(I)Z" } : Jvm.MethodName)) ∈ lw_all := lw_g (lw_at lw_m2 141 rfl) rfl
theorem q475 : (Jvm.Cond.privateMethod ({ cls := "SecretBuyers", name := "isShop", desc := "(I)Z" } : Jvm.MethodName)) ∈ lw_tbl := lw_at lw_m2 142 rfl
theorem q476 : (Jvm.Cond.instanceMethod ({ cls := "SecretBuyers", name := "isShop", desc := "(I)Z" } : Jvm.MethodName)) ∈ lw_all := lw_g (lw_at lw_m2 143 rfl) rfl
theorem q477 : (Jvm.Cond.code ({ cls := "SecretBuyers", name := "isShop", desc := "(I)Z" } : Jvm.MethodName) prog_1_method_12_code (2 : Nat) (Option.some Jvm.ClassFile.FieldType.boolean)) ∈ lw_all := lw_g (lw_at lw_m2 144 rfl) rfl
theorem q478 : (Jvm.Cond.methodLink "SecretBuyers" (141 : Nat) ({ cls := "SecretBuyers", name := "isBuyer", desc := "(I)Z" } : Jvm.MethodName)) ∈ lw_all := lw_g (lw_at lw_m2 145 rfl) rfl
theorem q479 : (Jvm.Cond.privateMethod ({ cls := "SecretBuyers", name := "isBuyer", desc := "(I)Z" } : Jvm.MethodName)) ∈ lw_tbl := lw_at lw_m2 146 rfl
theorem q480 : (Jvm.Cond.instanceMethod ({ cls := "SecretBuyers", name := "isBuyer", desc := "(I)Z" } : Jvm.MethodName)) ∈ lw_all := lw_g (lw_at lw_m2 147 rfl) rfl
theorem q481 : (Jvm.Cond.code ({ cls := "SecretBuyers", name := "isBuyer", desc := "(I)Z" } : Jvm.MethodName) prog_1_method_13_code (2 : Nat) (Option.some Jvm.ClassFile.FieldType.boolean)) ∈ lw_all := lw_g (lw_at lw_m2 148 rfl) rfl
theorem q482 : (Jvm.Cond.methodLink "SecretBuyers" (144 : Nat) ({ cls := "java/util/ArrayList", name := "get", desc := "(I)Ljava/lang/Object;" } : Jvm.MethodName)) ∈ lw_all := lw_g (lw_at lw_m2 149 rfl) rfl
theorem q497 : (Jvm.Cond.methodLink "SecretBuyers" (154 : Nat) ({ cls := "SecretBuyers$Visit", name := "<init>", desc := "(ILSecretBuyers$Shop;IIIIIII)V" } : Jvm.MethodName)) ∈ lw_all := lw_g (lw_at lw_m2 164 rfl) rfl
theorem q502 : (Jvm.Cond.fieldLinkNest "SecretBuyers" (311 : Nat) "SecretBuyers$Visit" "number" "I" "SecretBuyers") ∈ lw_tbl := lw_at lw_m2 169 rfl
theorem q504 : (Jvm.Cond.fieldLinkNest "SecretBuyers" (148 : Nat) "SecretBuyers$Visit" "buyer" "I" "SecretBuyers") ∈ lw_tbl := lw_at lw_m2 171 rfl
theorem q507 : (Jvm.Cond.fieldLinkNest "SecretBuyers" (151 : Nat) "SecretBuyers$Visit" "day" "I" "SecretBuyers") ∈ lw_tbl := lw_at lw_m2 174 rfl
theorem q513 : (Jvm.Cond.fieldLinkNest "SecretBuyers" (220 : Nat) "SecretBuyers$Visit" "form" "I" "SecretBuyers") ∈ lw_tbl := lw_at lw_m2 180 rfl
theorem q517 : (Jvm.Cond.fieldLinkNest "SecretBuyers" (167 : Nat) "SecretBuyers$Visit" "told" "I" "SecretBuyers") ∈ lw_tbl := lw_at lw_m2 184 rfl
theorem q519 : (Jvm.Cond.fieldLinkNest "SecretBuyers" (160 : Nat) "SecretBuyers$Visit" "shop" "LSecretBuyers$Shop;" "SecretBuyers") ∈ lw_tbl := lw_at lw_m2 186 rfl
theorem q521 : (Jvm.Cond.fieldLinkNest "SecretBuyers" (217 : Nat) "SecretBuyers$Visit" "isSeen" "Z" "SecretBuyers") ∈ lw_tbl := lw_at lw_m2 188 rfl
theorem q523 : (Jvm.Cond.fieldLinkNest "SecretBuyers" (223 : Nat) "SecretBuyers$Visit" "known" "I" "SecretBuyers") ∈ lw_tbl := lw_at lw_m2 190 rfl
theorem q525 : (Jvm.Cond.fieldLinkNest "SecretBuyers" (260 : Nat) "SecretBuyers$Visit" "before" "I" "SecretBuyers") ∈ lw_tbl := lw_at lw_m2 192 rfl
theorem q526 : (Jvm.Cond.fieldLinkNest "SecretBuyers" (263 : Nat) "SecretBuyers$Visit" "score" "I" "SecretBuyers") ∈ lw_tbl := lw_at lw_m2 193 rfl
theorem q527 : (Jvm.Cond.fieldLinkNest "SecretBuyers" (272 : Nat) "SecretBuyers$Visit" "bonus" "I" "SecretBuyers") ∈ lw_tbl := lw_at lw_m2 194 rfl
theorem q529 : (Jvm.Cond.fieldLinkNest "SecretBuyers" (237 : Nat) "SecretBuyers$Visit" "is" "I" "SecretBuyers") ∈ lw_tbl := lw_at lw_m2 196 rfl
theorem q530 : (Jvm.Cond.fieldLinkNest "SecretBuyers" (240 : Nat) "SecretBuyers$Visit" "brief" "LSecretBuyers$Brief;" "SecretBuyers") ∈ lw_tbl := lw_at lw_m2 197 rfl
theorem q565 : (Jvm.Cond.instanceMethod ({ cls := "SecretBuyers", name := "appeal", desc := "(II)Z" } : Jvm.MethodName)) ∈ lw_all := lw_g (lw_at lw_m2 232 rfl) rfl
theorem q566 : (Jvm.Cond.selects "SecretBuyers" ({ cls := "SecretBuyers", name := "appeal", desc := "(II)Z" } : Jvm.MethodName) ({ cls := "SecretBuyers", name := "appeal", desc := "(II)Z" } : Jvm.MethodName)) ∈ lw_all := lw_g (lw_at lw_m2 233 rfl) rfl
theorem q567 : (Jvm.Cond.code ({ cls := "SecretBuyers", name := "appeal", desc := "(II)Z" } : Jvm.MethodName) prog_1_method_17_code (4 : Nat) (Option.some Jvm.ClassFile.FieldType.boolean)) ∈ lw_all := lw_g (lw_at lw_m2 234 rfl) rfl
theorem q568 : (Jvm.Cond.methodLink "SecretBuyers" (157 : Nat) ({ cls := "SecretBuyers", name := "isVisit", desc := "(I)Z" } : Jvm.MethodName)) ∈ lw_all := lw_g (lw_at lw_m2 235 rfl) rfl
theorem q569 : (Jvm.Cond.privateMethod ({ cls := "SecretBuyers", name := "isVisit", desc := "(I)Z" } : Jvm.MethodName)) ∈ lw_tbl := lw_at lw_m2 236 rfl
theorem q570 : (Jvm.Cond.instanceMethod ({ cls := "SecretBuyers", name := "isVisit", desc := "(I)Z" } : Jvm.MethodName)) ∈ lw_all := lw_g (lw_at lw_m2 237 rfl) rfl
theorem q571 : (Jvm.Cond.code ({ cls := "SecretBuyers", name := "isVisit", desc := "(I)Z" } : Jvm.MethodName) prog_1_method_14_code (2 : Nat) (Option.some Jvm.ClassFile.FieldType.boolean)) ∈ lw_all := lw_g (lw_at lw_m2 238 rfl) rfl
theorem q572 : (Jvm.Cond.classLink "SecretBuyers" (170 : Nat) "SecretBuyers$Appeal") ∈ lw_all := lw_g (lw_at lw_m2 239 rfl) rfl
theorem q574 : (Jvm.Cond.methodLink "SecretBuyers" (172 : Nat) ({ cls := "SecretBuyers$Appeal", name := "<init>", desc := "(LSecretBuyers$Visit;II)V" } : Jvm.MethodName)) ∈ lw_all := lw_g (lw_at lw_m3 1 rfl) rfl
theorem q579 : (Jvm.Cond.fieldLinkNest "SecretBuyers" (226 : Nat) "SecretBuyers$Appeal" "visit" "LSecretBuyers$Visit;" "SecretBuyers") ∈ lw_tbl := lw_at lw_m3 6 rfl
theorem q581 : (Jvm.Cond.fieldLinkNest "SecretBuyers" (231 : Nat) "SecretBuyers$Appeal" "item" "I" "SecretBuyers") ∈ lw_tbl := lw_at lw_m3 8 rfl
theorem q583 : (Jvm.Cond.fieldLinkNest "SecretBuyers" (230 : Nat) "SecretBuyers$Appeal" "day" "I" "SecretBuyers") ∈ lw_tbl := lw_at lw_m3 10 rfl
theorem q592 : (Jvm.Cond.instanceMethod ({ cls := "SecretBuyers", name := "feed", desc := "(JJJ)I" } : Jvm.MethodName)) ∈ lw_all := lw_g (lw_at lw_m3 19 rfl) rfl
theorem q593 : (Jvm.Cond.selects "SecretBuyers" ({ cls := "SecretBuyers", name := "feed", desc := "(JJJ)I" } : Jvm.MethodName) ({ cls := "SecretBuyers", name := "feed", desc := "(JJJ)I" } : Jvm.MethodName)) ∈ lw_all := lw_g (lw_at lw_m3 20 rfl) rfl
theorem q594 : (Jvm.Cond.code ({ cls := "SecretBuyers", name := "feed", desc := "(JJJ)I" } : Jvm.MethodName) prog_1_method_18_code (9 : Nat) (Option.some Jvm.ClassFile.FieldType.int)) ∈ lw_all := lw_g (lw_at lw_m3 21 rfl) rfl
theorem q596 : (Jvm.Cond.instanceMethod ({ cls := "SecretBuyers", name := "brief", desc := "(II)I" } : Jvm.MethodName)) ∈ lw_all := lw_g (lw_at lw_m3 23 rfl) rfl
theorem q597 : (Jvm.Cond.selects "SecretBuyers" ({ cls := "SecretBuyers", name := "brief", desc := "(II)I" } : Jvm.MethodName) ({ cls := "SecretBuyers", name := "brief", desc := "(II)I" } : Jvm.MethodName)) ∈ lw_all := lw_g (lw_at lw_m3 24 rfl) rfl
theorem q598 : (Jvm.Cond.codeWith ({ cls := "SecretBuyers", name := "brief", desc := "(II)I" } : Jvm.MethodName) prog_1_method_19_code (5 : Nat) (Option.some Jvm.ClassFile.FieldType.int) [((58 : Nat), (73 : Nat), (76 : Nat), (189 : Nat))]) ∈ lw_all := lw_g (lw_at lw_m3 25 rfl) rfl
theorem q599 : (Jvm.Cond.classLink "SecretBuyers" (189 : Nat) "SecretBuyers$Wrong") ∈ lw_all := lw_g (lw_at lw_m3 26 rfl) rfl
theorem q600 : (Jvm.Cond.methodLink "SecretBuyers" (178 : Nat) ({ cls := "SecretBuyers", name := "isDay", desc := "(I)Z" } : Jvm.MethodName)) ∈ lw_all := lw_g (lw_at lw_m3 27 rfl) rfl
theorem q601 : (Jvm.Cond.static ({ cls := "SecretBuyers", name := "isDay", desc := "(I)Z" } : Jvm.MethodName)) ∈ lw_all := lw_g (lw_at lw_m3 28 rfl) rfl
theorem q602 : (Jvm.Cond.code ({ cls := "SecretBuyers", name := "isDay", desc := "(I)Z" } : Jvm.MethodName) prog_1_method_15_code (1 : Nat) (Option.some Jvm.ClassFile.FieldType.boolean)) ∈ lw_all := lw_g (lw_at lw_m3 29 rfl) rfl
theorem q603 : (Jvm.Cond.methodLink "SecretBuyers" (181 : Nat) ({ cls := "SecretBuyers$Reader", name := "begin", desc := "([BIIII)V" } : Jvm.MethodName)) ∈ lw_all := lw_g (lw_at lw_m3 30 rfl) rfl
theorem q616 : (Jvm.Cond.fieldLinkNest "SecretBuyers" (246 : Nat) "SecretBuyers$Brief" "day" "I" "SecretBuyers") ∈ lw_tbl := lw_at lw_m3 43 rfl
theorem q618 : (Jvm.Cond.fieldLinkNest "SecretBuyers" (247 : Nat) "SecretBuyers$Brief" "chain" "I" "SecretBuyers") ∈ lw_tbl := lw_at lw_m3 45 rfl
theorem q620 : (Jvm.Cond.fieldLinkNest "SecretBuyers" (251 : Nat) "SecretBuyers$Brief" "from" "I" "SecretBuyers") ∈ lw_tbl := lw_at lw_m3 47 rfl
theorem q737 : (Jvm.Cond.methodLink "SecretBuyers" (185 : Nat) ({ cls := "SecretBuyers$Reader", name := "whole", desc := "()LSecretBuyers$Brief;" } : Jvm.MethodName)) ∈ lw_all := lw_g (lw_at lw_m3 164 rfl) rfl
theorem q823 : (Jvm.Cond.fieldLinkNest "SecretBuyers" (191 : Nat) "SecretBuyers$Wrong" "fault" "I" "SecretBuyers") ∈ lw_tbl := lw_at lw_m4 10 rfl
theorem q1012 : (Jvm.Cond.selects "SecretBuyers" ({ cls := "java/lang/Object", name := "equals", desc := "(Ljava/lang/Object;)Z" } : Jvm.MethodName) ({ cls := "java/lang/Object", name := "equals", desc := "(Ljava/lang/Object;)Z" } : Jvm.MethodName)) ∈ lw_all := lw_g (lw_at lw_m4 199 rfl) rfl
theorem q1188 : (Jvm.Cond.instanceMethod ({ cls := "SecretBuyers", name := "fewest", desc := "(II)I" } : Jvm.MethodName)) ∈ lw_all := lw_g (lw_at lw_m5 135 rfl) rfl
theorem q1189 : (Jvm.Cond.selects "SecretBuyers" ({ cls := "SecretBuyers", name := "fewest", desc := "(II)I" } : Jvm.MethodName) ({ cls := "SecretBuyers", name := "fewest", desc := "(II)I" } : Jvm.MethodName)) ∈ lw_all := lw_g (lw_at lw_m5 136 rfl) rfl
theorem q1190 : (Jvm.Cond.code ({ cls := "SecretBuyers", name := "fewest", desc := "(II)I" } : Jvm.MethodName) prog_1_method_28_code (3 : Nat) (Option.some Jvm.ClassFile.FieldType.int)) ∈ lw_all := lw_g (lw_at lw_m5 137 rfl) rfl
theorem q1191 : (Jvm.Cond.methodLink "SecretBuyers" (293 : Nat) ({ cls := "SecretBuyers", name := "works", desc := "()V" } : Jvm.MethodName)) ∈ lw_all := lw_g (lw_at lw_m5 138 rfl) rfl
theorem q1192 : (Jvm.Cond.privateMethod ({ cls := "SecretBuyers", name := "works", desc := "()V" } : Jvm.MethodName)) ∈ lw_tbl := lw_at lw_m5 139 rfl
theorem q1193 : (Jvm.Cond.instanceMethod ({ cls := "SecretBuyers", name := "works", desc := "()V" } : Jvm.MethodName)) ∈ lw_all := lw_g (lw_at lw_m5 140 rfl) rfl
theorem q1194 : (Jvm.Cond.code ({ cls := "SecretBuyers", name := "works", desc := "()V" } : Jvm.MethodName) prog_1_method_20_code (3 : Nat) (Option.none : Option Jvm.ClassFile.FieldType)) ∈ lw_all := lw_g (lw_at lw_m5 141 rfl) rfl
theorem q1195 : (Jvm.Cond.methodLink "SecretBuyers" (194 : Nat) ({ cls := "java/util/ArrayList", name := "clear", desc := "()V" } : Jvm.MethodName)) ∈ lw_all := lw_g (lw_at lw_m5 142 rfl) rfl
theorem q1199 : (Jvm.Cond.methodLink "SecretBuyers" (197 : Nat) ({ cls := "SecretBuyers", name := "sees", desc := "(LSecretBuyers$Visit;)V" } : Jvm.MethodName)) ∈ lw_all := lw_g (lw_at lw_m5 146 rfl) rfl
theorem q1200 : (Jvm.Cond.privateMethod ({ cls := "SecretBuyers", name := "sees", desc := "(LSecretBuyers$Visit;)V" } : Jvm.MethodName)) ∈ lw_tbl := lw_at lw_m5 147 rfl
theorem q1201 : (Jvm.Cond.instanceMethod ({ cls := "SecretBuyers", name := "sees", desc := "(LSecretBuyers$Visit;)V" } : Jvm.MethodName)) ∈ lw_all := lw_g (lw_at lw_m5 148 rfl) rfl
theorem q1202 : (Jvm.Cond.code ({ cls := "SecretBuyers", name := "sees", desc := "(LSecretBuyers$Visit;)V" } : Jvm.MethodName) prog_1_method_21_code (4 : Nat) (Option.none : Option Jvm.ClassFile.FieldType)) ∈ lw_all := lw_g (lw_at lw_m5 149 rfl) rfl
theorem q1203 : (Jvm.Cond.methodLink "SecretBuyers" (215 : Nat) ({ cls := "SecretBuyers", name := "day", desc := "()I" } : Jvm.MethodName)) ∈ lw_all := lw_g (lw_at lw_m5 150 rfl) rfl
theorem q1204 : (Jvm.Cond.privateMethod ({ cls := "SecretBuyers", name := "day", desc := "()I" } : Jvm.MethodName)) ∈ lw_tbl := lw_at lw_m5 151 rfl
theorem q1205 : (Jvm.Cond.instanceMethod ({ cls := "SecretBuyers", name := "day", desc := "()I" } : Jvm.MethodName)) ∈ lw_all := lw_g (lw_at lw_m5 152 rfl) rfl
theorem q1206 : (Jvm.Cond.code ({ cls := "SecretBuyers", name := "day", desc := "()I" } : Jvm.MethodName) prog_1_method_4_code (1 : Nat) (Option.some Jvm.ClassFile.FieldType.int)) ∈ lw_all := lw_g (lw_at lw_m5 153 rfl) rfl
theorem q1207 : (Jvm.Cond.methodLink "SecretBuyers" (234 : Nat) ({ cls := "SecretBuyers$Visit", name := "canBeAlone", desc := "()Z" } : Jvm.MethodName)) ∈ lw_all := lw_g (lw_at lw_m5 154 rfl) rfl
theorem q1215 : (Jvm.Cond.classLink "SecretBuyers" (244 : Nat) "SecretBuyers$Brief") ∈ lw_all := lw_g (lw_at lw_m5 162 rfl) rfl
theorem q1216 : (Jvm.Cond.methodLink "SecretBuyers" (254 : Nat) ({ cls := "SecretBuyers$Visit", name := "isAheadOf", desc := "(LSecretBuyers$Visit;)Z" } : Jvm.MethodName)) ∈ lw_all := lw_g (lw_at lw_m5 163 rfl) rfl
theorem q1220 : (Jvm.Cond.methodLink "SecretBuyers" (257 : Nat) ({ cls := "java/util/ArrayList", name := "add", desc := "(ILjava/lang/Object;)V" } : Jvm.MethodName)) ∈ lw_all := lw_g (lw_at lw_m5 167 rfl) rfl
theorem q1229 : (Jvm.Cond.methodLink "SecretBuyers" (201 : Nat) ({ cls := "SecretBuyers", name := "scores", desc := "(LSecretBuyers$Visit;)V" } : Jvm.MethodName)) ∈ lw_all := lw_g (lw_at lw_m5 176 rfl) rfl
theorem q1230 : (Jvm.Cond.privateMethod ({ cls := "SecretBuyers", name := "scores", desc := "(LSecretBuyers$Visit;)V" } : Jvm.MethodName)) ∈ lw_tbl := lw_at lw_m5 177 rfl
theorem q1231 : (Jvm.Cond.instanceMethod ({ cls := "SecretBuyers", name := "scores", desc := "(LSecretBuyers$Visit;)V" } : Jvm.MethodName)) ∈ lw_all := lw_g (lw_at lw_m5 178 rfl) rfl
theorem q1232 : (Jvm.Cond.code ({ cls := "SecretBuyers", name := "scores", desc := "(LSecretBuyers$Visit;)V" } : Jvm.MethodName) prog_1_method_22_code (3 : Nat) (Option.none : Option Jvm.ClassFile.FieldType)) ∈ lw_all := lw_g (lw_at lw_m5 179 rfl) rfl
theorem q1233 : (Jvm.Cond.methodLink "SecretBuyers" (266 : Nat) ({ cls := "SecretBuyers$Brief", name := "score", desc := "(LSecretBuyers$Ask;LSecretBuyers$Visit;I)I" } : Jvm.MethodName)) ∈ lw_all := lw_g (lw_at lw_m5 180 rfl) rfl
theorem q1320 : (Jvm.Cond.methodLink "SecretBuyers" (269 : Nat) ({ cls := "SecretBuyers$Brief", name := "bonus", desc := "(LSecretBuyers$Ask;LSecretBuyers$Visit;I)I" } : Jvm.MethodName)) ∈ lw_all := lw_g (lw_at lw_m6 27 rfl) rfl
theorem q1333 : (Jvm.Cond.methodLink "SecretBuyers" (204 : Nat) ({ cls := "SecretBuyers", name := "isFirstOf", desc := "(LSecretBuyers$Visit;)Z" } : Jvm.MethodName)) ∈ lw_all := lw_g (lw_at lw_m6 40 rfl) rfl
theorem q1334 : (Jvm.Cond.privateMethod ({ cls := "SecretBuyers", name := "isFirstOf", desc := "(LSecretBuyers$Visit;)Z" } : Jvm.MethodName)) ∈ lw_tbl := lw_at lw_m6 41 rfl
theorem q1335 : (Jvm.Cond.instanceMethod ({ cls := "SecretBuyers", name := "isFirstOf", desc := "(LSecretBuyers$Visit;)Z" } : Jvm.MethodName)) ∈ lw_all := lw_g (lw_at lw_m6 42 rfl) rfl
theorem q1336 : (Jvm.Cond.code ({ cls := "SecretBuyers", name := "isFirstOf", desc := "(LSecretBuyers$Visit;)Z" } : Jvm.MethodName) prog_1_method_23_code (3 : Nat) (Option.some Jvm.ClassFile.FieldType.boolean)) ∈ lw_all := lw_g (lw_at lw_m6 43 rfl) rfl
theorem q1337 : (Jvm.Cond.methodLink "SecretBuyers" (208 : Nat) ({ cls := "SecretBuyers", name := "seeks", desc := "(IIZ)I" } : Jvm.MethodName)) ∈ lw_all := lw_g (lw_at lw_m6 44 rfl) rfl
theorem q1338 : (Jvm.Cond.privateMethod ({ cls := "SecretBuyers", name := "seeks", desc := "(IIZ)I" } : Jvm.MethodName)) ∈ lw_tbl := lw_at lw_m6 45 rfl
theorem q1339 : (Jvm.Cond.instanceMethod ({ cls := "SecretBuyers", name := "seeks", desc := "(IIZ)I" } : Jvm.MethodName)) ∈ lw_all := lw_g (lw_at lw_m6 46 rfl) rfl
theorem q1340 : (Jvm.Cond.code ({ cls := "SecretBuyers", name := "seeks", desc := "(IIZ)I" } : Jvm.MethodName) prog_1_method_24_code (10 : Nat) (Option.some Jvm.ClassFile.FieldType.int)) ∈ lw_all := lw_g (lw_at lw_m6 47 rfl) rfl
theorem q1341 : (Jvm.Cond.methodLink "SecretBuyers" (277 : Nat) ({ cls := "SecretBuyers$Visit", name := "quarrels", desc := "(LSecretBuyers$Visit;I)Z" } : Jvm.MethodName)) ∈ lw_all := lw_g (lw_at lw_m6 48 rfl) rfl
theorem q1353 : (Jvm.Cond.methodLink "SecretBuyers" (281 : Nat) ({ cls := "java/lang/Integer", name := "bitCount", desc := "(I)I" } : Jvm.MethodName)) ∈ lw_all := lw_g (lw_at lw_m6 60 rfl) rfl
theorem q1354 : (Jvm.Cond.methodLink "SecretBuyers" (287 : Nat) ({ cls := "SecretBuyers", name := "parts", desc := "(I)Z" } : Jvm.MethodName)) ∈ lw_all := lw_g (lw_at lw_m6 61 rfl) rfl
theorem q1355 : (Jvm.Cond.privateMethod ({ cls := "SecretBuyers", name := "parts", desc := "(I)Z" } : Jvm.MethodName)) ∈ lw_tbl := lw_at lw_m6 62 rfl
theorem q1356 : (Jvm.Cond.instanceMethod ({ cls := "SecretBuyers", name := "parts", desc := "(I)Z" } : Jvm.MethodName)) ∈ lw_all := lw_g (lw_at lw_m6 63 rfl) rfl
theorem q1357 : (Jvm.Cond.code ({ cls := "SecretBuyers", name := "parts", desc := "(I)Z" } : Jvm.MethodName) prog_1_method_25_code (3 : Nat) (Option.some Jvm.ClassFile.FieldType.boolean)) ∈ lw_all := lw_g (lw_at lw_m6 64 rfl) rfl
theorem q1358 : (Jvm.Cond.methodLink "SecretBuyers" (212 : Nat) ({ cls := "SecretBuyers", name := "leans", desc := "()V" } : Jvm.MethodName)) ∈ lw_all := lw_g (lw_at lw_m6 65 rfl) rfl
theorem q1359 : (Jvm.Cond.privateMethod ({ cls := "SecretBuyers", name := "leans", desc := "()V" } : Jvm.MethodName)) ∈ lw_tbl := lw_at lw_m6 66 rfl
theorem q1360 : (Jvm.Cond.instanceMethod ({ cls := "SecretBuyers", name := "leans", desc := "()V" } : Jvm.MethodName)) ∈ lw_all := lw_g (lw_at lw_m6 67 rfl) rfl
theorem q1361 : (Jvm.Cond.code ({ cls := "SecretBuyers", name := "leans", desc := "()V" } : Jvm.MethodName) prog_1_method_30_code (5 : Nat) (Option.none : Option Jvm.ClassFile.FieldType)) ∈ lw_all := lw_g (lw_at lw_m6 68 rfl) rfl
theorem q1362 : (Jvm.Cond.methodLink "SecretBuyers" (314 : Nat) ({ cls := "SecretBuyers$Visit", name := "meets", desc := "(LSecretBuyers$Visit;)Z" } : Jvm.MethodName)) ∈ lw_all := lw_g (lw_at lw_m6 69 rfl) rfl
theorem q1371 : (Jvm.Cond.instanceMethod ({ cls := "SecretBuyers", name := "set", desc := "(III)I" } : Jvm.MethodName)) ∈ lw_all := lw_g (lw_at lw_m6 78 rfl) rfl
theorem q1372 : (Jvm.Cond.selects "SecretBuyers" ({ cls := "SecretBuyers", name := "set", desc := "(III)I" } : Jvm.MethodName) ({ cls := "SecretBuyers", name := "set", desc := "(III)I" } : Jvm.MethodName)) ∈ lw_all := lw_g (lw_at lw_m6 79 rfl) rfl
theorem q1373 : (Jvm.Cond.code ({ cls := "SecretBuyers", name := "set", desc := "(III)I" } : Jvm.MethodName) prog_1_method_29_code (6 : Nat) (Option.some Jvm.ClassFile.FieldType.int)) ∈ lw_all := lw_g (lw_at lw_m6 80 rfl) rfl
theorem q1375 : (Jvm.Cond.instanceMethod ({ cls := "SecretBuyers", name := "meetings", desc := "(II)I" } : Jvm.MethodName)) ∈ lw_all := lw_g (lw_at lw_m6 82 rfl) rfl
theorem q1376 : (Jvm.Cond.selects "SecretBuyers" ({ cls := "SecretBuyers", name := "meetings", desc := "(II)I" } : Jvm.MethodName) ({ cls := "SecretBuyers", name := "meetings", desc := "(II)I" } : Jvm.MethodName)) ∈ lw_all := lw_g (lw_at lw_m6 83 rfl) rfl
theorem q1377 : (Jvm.Cond.code ({ cls := "SecretBuyers", name := "meetings", desc := "(II)I" } : Jvm.MethodName) prog_1_method_32_code (6 : Nat) (Option.some Jvm.ClassFile.FieldType.int)) ∈ lw_all := lw_g (lw_at lw_m6 84 rfl) rfl
theorem q1379 : (Jvm.Cond.instanceMethod ({ cls := "SecretBuyers", name := "doubt", desc := "(III)I" } : Jvm.MethodName)) ∈ lw_all := lw_g (lw_at lw_m6 86 rfl) rfl
theorem q1380 : (Jvm.Cond.selects "SecretBuyers" ({ cls := "SecretBuyers", name := "doubt", desc := "(III)I" } : Jvm.MethodName) ({ cls := "SecretBuyers", name := "doubt", desc := "(III)I" } : Jvm.MethodName)) ∈ lw_all := lw_g (lw_at lw_m6 87 rfl) rfl
theorem q1381 : (Jvm.Cond.code ({ cls := "SecretBuyers", name := "doubt", desc := "(III)I" } : Jvm.MethodName) prog_1_method_38_code (4 : Nat) (Option.some Jvm.ClassFile.FieldType.int)) ∈ lw_all := lw_g (lw_at lw_m6 88 rfl) rfl
theorem q1382 : (Jvm.Cond.methodLink "SecretBuyers" (325 : Nat) ({ cls := "SecretBuyers", name := "areDays", desc := "(II)Z" } : Jvm.MethodName)) ∈ lw_all := lw_g (lw_at lw_m6 89 rfl) rfl
theorem q1383 : (Jvm.Cond.static ({ cls := "SecretBuyers", name := "areDays", desc := "(II)Z" } : Jvm.MethodName)) ∈ lw_all := lw_g (lw_at lw_m6 90 rfl) rfl
theorem q1384 : (Jvm.Cond.code ({ cls := "SecretBuyers", name := "areDays", desc := "(II)Z" } : Jvm.MethodName) prog_1_method_35_code (2 : Nat) (Option.some Jvm.ClassFile.FieldType.boolean)) ∈ lw_all := lw_g (lw_at lw_m6 91 rfl) rfl
theorem q1385 : (Jvm.Cond.methodLink "SecretBuyers" (329 : Nat) ({ cls := "SecretBuyers", name := "meanOf", desc := "(III)I" } : Jvm.MethodName)) ∈ lw_all := lw_g (lw_at lw_m6 92 rfl) rfl
theorem q1386 : (Jvm.Cond.privateMethod ({ cls := "SecretBuyers", name := "meanOf", desc := "(III)I" } : Jvm.MethodName)) ∈ lw_tbl := lw_at lw_m6 93 rfl
theorem q1387 : (Jvm.Cond.instanceMethod ({ cls := "SecretBuyers", name := "meanOf", desc := "(III)I" } : Jvm.MethodName)) ∈ lw_all := lw_g (lw_at lw_m6 94 rfl) rfl
theorem q1388 : (Jvm.Cond.code ({ cls := "SecretBuyers", name := "meanOf", desc := "(III)I" } : Jvm.MethodName) prog_1_method_36_code (7 : Nat) (Option.some Jvm.ClassFile.FieldType.int)) ∈ lw_all := lw_g (lw_at lw_m6 95 rfl) rfl
theorem q1389 : (Jvm.Cond.methodLink "SecretBuyers" (304 : Nat) ({ cls := "SecretBuyers$Visit", name := "counts", desc := "()Z" } : Jvm.MethodName)) ∈ lw_all := lw_g (lw_at lw_m6 96 rfl) rfl
theorem q1390 : (Jvm.Cond.methodLink "SecretBuyers" (317 : Nat) ({ cls := "SecretBuyers", name := "fair", desc := "(LSecretBuyers$Visit;)I" } : Jvm.MethodName)) ∈ lw_all := lw_g (lw_at lw_m6 97 rfl) rfl
theorem q1391 : (Jvm.Cond.privateMethod ({ cls := "SecretBuyers", name := "fair", desc := "(LSecretBuyers$Visit;)I" } : Jvm.MethodName)) ∈ lw_tbl := lw_at lw_m6 98 rfl
theorem q1392 : (Jvm.Cond.instanceMethod ({ cls := "SecretBuyers", name := "fair", desc := "(LSecretBuyers$Visit;)I" } : Jvm.MethodName)) ∈ lw_all := lw_g (lw_at lw_m6 99 rfl) rfl
theorem q1393 : (Jvm.Cond.code ({ cls := "SecretBuyers", name := "fair", desc := "(LSecretBuyers$Visit;)I" } : Jvm.MethodName) prog_1_method_33_code (2 : Nat) (Option.some Jvm.ClassFile.FieldType.int)) ∈ lw_all := lw_g (lw_at lw_m6 100 rfl) rfl
theorem q1395 : (Jvm.Cond.instanceMethod ({ cls := "SecretBuyers", name := "apart", desc := "(IIII)I" } : Jvm.MethodName)) ∈ lw_all := lw_g (lw_at lw_m6 102 rfl) rfl
theorem q1396 : (Jvm.Cond.selects "SecretBuyers" ({ cls := "SecretBuyers", name := "apart", desc := "(IIII)I" } : Jvm.MethodName) ({ cls := "SecretBuyers", name := "apart", desc := "(IIII)I" } : Jvm.MethodName)) ∈ lw_all := lw_g (lw_at lw_m6 103 rfl) rfl
theorem q1397 : (Jvm.Cond.code ({ cls := "SecretBuyers", name := "apart", desc := "(IIII)I" } : Jvm.MethodName) prog_1_method_39_code (8 : Nat) (Option.some Jvm.ClassFile.FieldType.int)) ∈ lw_all := lw_g (lw_at lw_m6 104 rfl) rfl
theorem q1398 : (Jvm.Cond.methodLink "SecretBuyers" (333 : Nat) ({ cls := "java/lang/Math", name := "abs", desc := "(I)I" } : Jvm.MethodName)) ∈ lw_all := lw_g (lw_at lw_m6 105 rfl) rfl
theorem q1400 : (Jvm.Cond.instanceMethod ({ cls := "SecretBuyers", name := "order", desc := "(IIII)I" } : Jvm.MethodName)) ∈ lw_all := lw_g (lw_at lw_m6 107 rfl) rfl
theorem q1401 : (Jvm.Cond.selects "SecretBuyers" ({ cls := "SecretBuyers", name := "order", desc := "(IIII)I" } : Jvm.MethodName) ({ cls := "SecretBuyers", name := "order", desc := "(IIII)I" } : Jvm.MethodName)) ∈ lw_all := lw_g (lw_at lw_m6 108 rfl) rfl
theorem q1402 : (Jvm.Cond.code ({ cls := "SecretBuyers", name := "order", desc := "(IIII)I" } : Jvm.MethodName) prog_1_method_41_code (10 : Nat) (Option.some Jvm.ClassFile.FieldType.int)) ∈ lw_all := lw_g (lw_at lw_m6 109 rfl) rfl
theorem q1403 : (Jvm.Cond.methodLink "SecretBuyers" (342 : Nat) ({ cls := "SecretBuyers", name := "row", desc := "(IIII)I" } : Jvm.MethodName)) ∈ lw_all := lw_g (lw_at lw_m6 110 rfl) rfl
theorem q1404 : (Jvm.Cond.privateMethod ({ cls := "SecretBuyers", name := "row", desc := "(IIII)I" } : Jvm.MethodName)) ∈ lw_tbl := lw_at lw_m6 111 rfl
theorem q1405 : (Jvm.Cond.instanceMethod ({ cls := "SecretBuyers", name := "row", desc := "(IIII)I" } : Jvm.MethodName)) ∈ lw_all := lw_g (lw_at lw_m6 112 rfl) rfl
theorem q1406 : (Jvm.Cond.code ({ cls := "SecretBuyers", name := "row", desc := "(IIII)I" } : Jvm.MethodName) prog_1_method_40_code (7 : Nat) (Option.some Jvm.ClassFile.FieldType.int)) ∈ lw_all := lw_g (lw_at lw_m6 113 rfl) rfl
theorem q1407 : (Jvm.Cond.methodLink "SecretBuyers" (338 : Nat) ({ cls := "SecretBuyers", name := "apart", desc := "(IIII)I" } : Jvm.MethodName)) ∈ lw_all := lw_g (lw_at lw_m6 114 rfl) rfl
theorem q1408 : (Jvm.Cond.methodLink "SecretBuyers" (345 : Nat) ({ cls := "java/lang/Math", name := "max", desc := "(II)I" } : Jvm.MethodName)) ∈ lw_all := lw_g (lw_at lw_m6 115 rfl) rfl
theorem q1410 : (Jvm.Cond.instanceMethod ({ cls := "SecretBuyers", name := "enough", desc := "(IIII)I" } : Jvm.MethodName)) ∈ lw_all := lw_g (lw_at lw_m6 117 rfl) rfl
theorem q1411 : (Jvm.Cond.selects "SecretBuyers" ({ cls := "SecretBuyers", name := "enough", desc := "(IIII)I" } : Jvm.MethodName) ({ cls := "SecretBuyers", name := "enough", desc := "(IIII)I" } : Jvm.MethodName)) ∈ lw_all := lw_g (lw_at lw_m6 118 rfl) rfl
theorem q1412 : (Jvm.Cond.code ({ cls := "SecretBuyers", name := "enough", desc := "(IIII)I" } : Jvm.MethodName) prog_1_method_42_code (7 : Nat) (Option.some Jvm.ClassFile.FieldType.int)) ∈ lw_all := lw_g (lw_at lw_m6 119 rfl) rfl
theorem q1414 : (Jvm.Cond.instanceMethod ({ cls := "SecretBuyers", name := "may", desc := "(III)I" } : Jvm.MethodName)) ∈ lw_all := lw_g (lw_at lw_m6 121 rfl) rfl
theorem q1415 : (Jvm.Cond.selects "SecretBuyers" ({ cls := "SecretBuyers", name := "may", desc := "(III)I" } : Jvm.MethodName) ({ cls := "SecretBuyers", name := "may", desc := "(III)I" } : Jvm.MethodName)) ∈ lw_all := lw_g (lw_at lw_m6 122 rfl) rfl
theorem q1416 : (Jvm.Cond.code ({ cls := "SecretBuyers", name := "may", desc := "(III)I" } : Jvm.MethodName) prog_1_method_44_code (4 : Nat) (Option.some Jvm.ClassFile.FieldType.int)) ∈ lw_all := lw_g (lw_at lw_m6 123 rfl) rfl
theorem q1417 : (Jvm.Cond.methodLink "SecretBuyers" (357 : Nat) ({ cls := "SecretBuyers", name := "mayGo", desc := "(ILSecretBuyers$Shop;I)Z" } : Jvm.MethodName)) ∈ lw_all := lw_g (lw_at lw_m6 124 rfl) rfl
theorem q1418 : (Jvm.Cond.privateMethod ({ cls := "SecretBuyers", name := "mayGo", desc := "(ILSecretBuyers$Shop;I)Z" } : Jvm.MethodName)) ∈ lw_tbl := lw_at lw_m6 125 rfl
theorem q1419 : (Jvm.Cond.instanceMethod ({ cls := "SecretBuyers", name := "mayGo", desc := "(ILSecretBuyers$Shop;I)Z" } : Jvm.MethodName)) ∈ lw_all := lw_g (lw_at lw_m6 126 rfl) rfl
theorem q1420 : (Jvm.Cond.code ({ cls := "SecretBuyers", name := "mayGo", desc := "(ILSecretBuyers$Shop;I)Z" } : Jvm.MethodName) prog_1_method_43_code (7 : Nat) (Option.some Jvm.ClassFile.FieldType.boolean)) ∈ lw_all := lw_g (lw_at lw_m6 127 rfl) rfl
theorem q1421 : (Jvm.Cond.methodLink "SecretBuyers" (353 : Nat) ({ cls := "SecretBuyers$Place", name := "way", desc := "(LSecretBuyers$Place;)I" } : Jvm.MethodName)) ∈ lw_all := lw_g (lw_at lw_m6 128 rfl) rfl
theorem q1423 : (Jvm.Cond.instanceMethod ({ cls := "SecretBuyers", name := "given", desc := "(III)I" } : Jvm.MethodName)) ∈ lw_all := lw_g (lw_at lw_m6 130 rfl) rfl
theorem q1424 : (Jvm.Cond.selects "SecretBuyers" ({ cls := "SecretBuyers", name := "given", desc := "(III)I" } : Jvm.MethodName) ({ cls := "SecretBuyers", name := "given", desc := "(III)I" } : Jvm.MethodName)) ∈ lw_all := lw_g (lw_at lw_m6 131 rfl) rfl
theorem q1425 : (Jvm.Cond.code ({ cls := "SecretBuyers", name := "given", desc := "(III)I" } : Jvm.MethodName) prog_1_method_46_code (10 : Nat) (Option.some Jvm.ClassFile.FieldType.int)) ∈ lw_all := lw_g (lw_at lw_m6 132 rfl) rfl
theorem q1426 : (Jvm.Cond.constant "SecretBuyers" (361 : Nat) (1000000 : Int32)) ∈ lw_all := lw_g (lw_at lw_m6 133 rfl) rfl
theorem q1427 : (Jvm.Cond.methodLink "SecretBuyers" (362 : Nat) ({ cls := "java/lang/Math", name := "min", desc := "(II)I" } : Jvm.MethodName)) ∈ lw_all := lw_g (lw_at lw_m6 134 rfl) rfl
theorem q1428 : (Jvm.Cond.methodLink "SecretBuyers" (365 : Nat) ({ cls := "SecretBuyers", name := "sumBy", desc := "(IIII)I" } : Jvm.MethodName)) ∈ lw_all := lw_g (lw_at lw_m6 135 rfl) rfl
theorem q1429 : (Jvm.Cond.privateMethod ({ cls := "SecretBuyers", name := "sumBy", desc := "(IIII)I" } : Jvm.MethodName)) ∈ lw_tbl := lw_at lw_m6 136 rfl
theorem q1430 : (Jvm.Cond.instanceMethod ({ cls := "SecretBuyers", name := "sumBy", desc := "(IIII)I" } : Jvm.MethodName)) ∈ lw_all := lw_g (lw_at lw_m6 137 rfl) rfl
theorem q1431 : (Jvm.Cond.code ({ cls := "SecretBuyers", name := "sumBy", desc := "(IIII)I" } : Jvm.MethodName) prog_1_method_45_code (5 : Nat) (Option.some Jvm.ClassFile.FieldType.int)) ∈ lw_all := lw_g (lw_at lw_m6 138 rfl) rfl
theorem q1434 : (Jvm.Cond.instanceMethod ({ cls := "SecretBuyers", name := "drawn", desc := "(III)I" } : Jvm.MethodName)) ∈ lw_all := lw_g (lw_at lw_m6 141 rfl) rfl
theorem q1435 : (Jvm.Cond.selects "SecretBuyers" ({ cls := "SecretBuyers", name := "drawn", desc := "(III)I" } : Jvm.MethodName) ({ cls := "SecretBuyers", name := "drawn", desc := "(III)I" } : Jvm.MethodName)) ∈ lw_all := lw_g (lw_at lw_m6 142 rfl) rfl
theorem q1436 : (Jvm.Cond.code ({ cls := "SecretBuyers", name := "drawn", desc := "(III)I" } : Jvm.MethodName) prog_1_method_48_code (9 : Nat) (Option.some Jvm.ClassFile.FieldType.int)) ∈ lw_all := lw_g (lw_at lw_m6 143 rfl) rfl
theorem q1437 : (Jvm.Cond.methodLink "SecretBuyers" (368 : Nat) ({ cls := "SecretBuyers", name := "latest", desc := "(I)LSecretBuyers$Visit;" } : Jvm.MethodName)) ∈ lw_all := lw_g (lw_at lw_m6 144 rfl) rfl
theorem q1438 : (Jvm.Cond.privateMethod ({ cls := "SecretBuyers", name := "latest", desc := "(I)LSecretBuyers$Visit;" } : Jvm.MethodName)) ∈ lw_tbl := lw_at lw_m6 145 rfl
theorem q1439 : (Jvm.Cond.instanceMethod ({ cls := "SecretBuyers", name := "latest", desc := "(I)LSecretBuyers$Visit;" } : Jvm.MethodName)) ∈ lw_all := lw_g (lw_at lw_m6 146 rfl) rfl
theorem q1440 : (Jvm.Cond.code ({ cls := "SecretBuyers", name := "latest", desc := "(I)LSecretBuyers$Visit;" } : Jvm.MethodName) prog_1_method_47_code (4 : Nat) (Option.some (Jvm.ClassFile.FieldType.object "SecretBuyers$Visit"))) ∈ lw_all := lw_g (lw_at lw_m6 147 rfl) rfl
theorem q1441 : (Jvm.Cond.constantLong "SecretBuyers" (371 : Nat) (1103515245 : Int64)) ∈ lw_all := lw_g (lw_at lw_m6 148 rfl) rfl
theorem q1442 : (Jvm.Cond.constantLong "SecretBuyers" (373 : Nat) (12345 : Int64)) ∈ lw_all := lw_g (lw_at lw_m6 149 rfl) rfl
theorem q1443 : (Jvm.Cond.constantLong "SecretBuyers" (375 : Nat) (2147483648 : Int64)) ∈ lw_all := lw_g (lw_at lw_m6 150 rfl) rfl
theorem q1444 : (Jvm.Cond.constantLong "SecretBuyers" (377 : Nat) (65536 : Int64)) ∈ lw_all := lw_g (lw_at lw_m6 151 rfl) rfl
theorem q1446 : (Jvm.Cond.instanceMethod ({ cls := "SecretBuyers", name := "sway", desc := "(II)I" } : Jvm.MethodName)) ∈ lw_all := lw_g (lw_at lw_m6 153 rfl) rfl
theorem q1447 : (Jvm.Cond.selects "SecretBuyers" ({ cls := "SecretBuyers", name := "sway", desc := "(II)I" } : Jvm.MethodName) ({ cls := "SecretBuyers", name := "sway", desc := "(II)I" } : Jvm.MethodName)) ∈ lw_all := lw_g (lw_at lw_m6 154 rfl) rfl
theorem q1448 : (Jvm.Cond.code ({ cls := "SecretBuyers", name := "sway", desc := "(II)I" } : Jvm.MethodName) prog_1_method_49_code (8 : Nat) (Option.some Jvm.ClassFile.FieldType.int)) ∈ lw_all := lw_g (lw_at lw_m6 155 rfl) rfl
theorem q1450 : (Jvm.Cond.instanceMethod ({ cls := "SecretBuyers", name := "sum", desc := "(IIII)I" } : Jvm.MethodName)) ∈ lw_all := lw_g (lw_at lw_m6 157 rfl) rfl
theorem q1451 : (Jvm.Cond.selects "SecretBuyers" ({ cls := "SecretBuyers", name := "sum", desc := "(IIII)I" } : Jvm.MethodName) ({ cls := "SecretBuyers", name := "sum", desc := "(IIII)I" } : Jvm.MethodName)) ∈ lw_all := lw_g (lw_at lw_m6 158 rfl) rfl
theorem q1452 : (Jvm.Cond.code ({ cls := "SecretBuyers", name := "sum", desc := "(IIII)I" } : Jvm.MethodName) prog_1_method_50_code (8 : Nat) (Option.some Jvm.ClassFile.FieldType.int)) ∈ lw_all := lw_g (lw_at lw_m6 159 rfl) rfl
theorem q1454 : (Jvm.Cond.instanceMethod ({ cls := "SecretBuyers", name := "count", desc := "(I)I" } : Jvm.MethodName)) ∈ lw_all := lw_g (lw_at lw_m6 161 rfl) rfl
theorem q1455 : (Jvm.Cond.selects "SecretBuyers" ({ cls := "SecretBuyers", name := "count", desc := "(I)I" } : Jvm.MethodName) ({ cls := "SecretBuyers", name := "count", desc := "(I)I" } : Jvm.MethodName)) ∈ lw_all := lw_g (lw_at lw_m6 162 rfl) rfl
theorem q1456 : (Jvm.Cond.code ({ cls := "SecretBuyers", name := "count", desc := "(I)I" } : Jvm.MethodName) prog_1_method_51_code (4 : Nat) (Option.some Jvm.ClassFile.FieldType.int)) ∈ lw_all := lw_g (lw_at lw_m6 163 rfl) rfl
theorem q1462 : (Jvm.Cond.instanceMethod ({ cls := "SecretBuyers", name := "look", desc := "(II)I" } : Jvm.MethodName)) ∈ lw_all := lw_g (lw_at lw_m6 169 rfl) rfl
theorem q1463 : (Jvm.Cond.selects "SecretBuyers" ({ cls := "SecretBuyers", name := "look", desc := "(II)I" } : Jvm.MethodName) ({ cls := "SecretBuyers", name := "look", desc := "(II)I" } : Jvm.MethodName)) ∈ lw_all := lw_g (lw_at lw_m6 170 rfl) rfl
theorem q1464 : (Jvm.Cond.code ({ cls := "SecretBuyers", name := "look", desc := "(II)I" } : Jvm.MethodName) prog_1_method_27_code (4 : Nat) (Option.some Jvm.ClassFile.FieldType.int)) ∈ lw_all := lw_g (lw_at lw_m6 171 rfl) rfl
theorem q1465 : (Jvm.Cond.methodLink "SecretBuyers" (300 : Nat) ({ cls := "SecretBuyers", name := "visitAt", desc := "(I)LSecretBuyers$Visit;" } : Jvm.MethodName)) ∈ lw_all := lw_g (lw_at lw_m6 172 rfl) rfl
theorem q1466 : (Jvm.Cond.privateMethod ({ cls := "SecretBuyers", name := "visitAt", desc := "(I)LSecretBuyers$Visit;" } : Jvm.MethodName)) ∈ lw_tbl := lw_at lw_m6 173 rfl
theorem q1467 : (Jvm.Cond.instanceMethod ({ cls := "SecretBuyers", name := "visitAt", desc := "(I)LSecretBuyers$Visit;" } : Jvm.MethodName)) ∈ lw_all := lw_g (lw_at lw_m6 174 rfl) rfl
theorem q1468 : (Jvm.Cond.code ({ cls := "SecretBuyers", name := "visitAt", desc := "(I)LSecretBuyers$Visit;" } : Jvm.MethodName) prog_1_method_26_code (2 : Nat) (Option.some (Jvm.ClassFile.FieldType.object "SecretBuyers$Visit"))) ∈ lw_all := lw_g (lw_at lw_m6 175 rfl) rfl
theorem q1469 : (Jvm.Cond.methodLink "SecretBuyers" (296 : Nat) ({ cls := "SecretBuyers", name := "need", desc := "(Z)V" } : Jvm.MethodName)) ∈ lw_all := lw_g (lw_at lw_m6 176 rfl) rfl
theorem q1470 : (Jvm.Cond.static ({ cls := "SecretBuyers", name := "need", desc := "(Z)V" } : Jvm.MethodName)) ∈ lw_all := lw_g (lw_at lw_m6 177 rfl) rfl
theorem q1471 : (Jvm.Cond.code ({ cls := "SecretBuyers", name := "need", desc := "(Z)V" } : Jvm.MethodName) prog_1_method_3_code (1 : Nat) (Option.none : Option Jvm.ClassFile.FieldType)) ∈ lw_all := lw_g (lw_at lw_m6 178 rfl) rfl
theorem q1472 : (Jvm.Cond.classLink "SecretBuyers" (107 : Nat) "java/util/NoSuchElementException") ∈ lw_all := lw_g (lw_at lw_m6 179 rfl) rfl
theorem q1481 : (Jvm.Cond.methodLink "SecretBuyers" (109 : Nat) ({ cls := "java/util/NoSuchElementException", name := "<init>", desc := "()V" } : Jvm.MethodName)) ∈ lw_all := lw_g (lw_at lw_m6 188 rfl) rfl
theorem q1493 : (Jvm.Cond.methodLink "SecretBuyers" (307 : Nat) ({ cls := "java/util/ArrayList", name := "indexOf", desc := "(Ljava/lang/Object;)I" } : Jvm.MethodName)) ∈ lw_all := lw_g (lw_at lw_m6 200 rfl) rfl
theorem q1498 : (Jvm.Cond.instanceMethod ({ cls := "SecretBuyers", name := "fair", desc := "(I)I" } : Jvm.MethodName)) ∈ lw_all := lw_g (lw_at lw_m6 205 rfl) rfl
theorem q1499 : (Jvm.Cond.selects "SecretBuyers" ({ cls := "SecretBuyers", name := "fair", desc := "(I)I" } : Jvm.MethodName) ({ cls := "SecretBuyers", name := "fair", desc := "(I)I" } : Jvm.MethodName)) ∈ lw_all := lw_g (lw_at lw_m6 206 rfl) rfl
theorem q1500 : (Jvm.Cond.code ({ cls := "SecretBuyers", name := "fair", desc := "(I)I" } : Jvm.MethodName) prog_1_method_34_code (2 : Nat) (Option.some Jvm.ClassFile.FieldType.int)) ∈ lw_all := lw_g (lw_at lw_m6 207 rfl) rfl
theorem q1505 : (Jvm.Cond.instanceMethod ({ cls := "SecretBuyers", name := "lean", desc := "(I)I" } : Jvm.MethodName)) ∈ lw_all := lw_g (lw_at lw_m6 212 rfl) rfl
theorem q1506 : (Jvm.Cond.selects "SecretBuyers" ({ cls := "SecretBuyers", name := "lean", desc := "(I)I" } : Jvm.MethodName) ({ cls := "SecretBuyers", name := "lean", desc := "(I)I" } : Jvm.MethodName)) ∈ lw_all := lw_g (lw_at lw_m6 213 rfl) rfl
theorem q1507 : (Jvm.Cond.code ({ cls := "SecretBuyers", name := "lean", desc := "(I)I" } : Jvm.MethodName) prog_1_method_31_code (2 : Nat) (Option.some Jvm.ClassFile.FieldType.int)) ∈ lw_all := lw_g (lw_at lw_m6 214 rfl) rfl
theorem q1512 : (Jvm.Cond.instanceMethod ({ cls := "SecretBuyers", name := "mean", desc := "(III)I" } : Jvm.MethodName)) ∈ lw_all := lw_g (lw_at lw_m6 219 rfl) rfl
theorem q1513 : (Jvm.Cond.selects "SecretBuyers" ({ cls := "SecretBuyers", name := "mean", desc := "(III)I" } : Jvm.MethodName) ({ cls := "SecretBuyers", name := "mean", desc := "(III)I" } : Jvm.MethodName)) ∈ lw_all := lw_g (lw_at lw_m6 220 rfl) rfl
theorem q1514 : (Jvm.Cond.code ({ cls := "SecretBuyers", name := "mean", desc := "(III)I" } : Jvm.MethodName) prog_1_method_37_code (5 : Nat) (Option.some Jvm.ClassFile.FieldType.int)) ∈ lw_all := lw_g (lw_at lw_m6 221 rfl) rfl
theorem q2168 : (Jvm.Cond.castable "SecretBuyers" "java/lang/Object") ∈ lw_tbl := lw_at lw_m9 155 rfl
theorem in_X1 : ∀ w ∈ wsX10, w ∈ lw_all := lw_in wsX10 [263, 265, 267, 269, 271, 273, 275, 277, 279, 281, 283, 285, 287, 289, 291, 293, 295, 297, 299, 301, 303, 305, 307, 309, 311, 313, 315, 317, 319] (by decide +kernel) (by decide +kernel)
