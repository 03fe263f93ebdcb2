/-! SecretBuyers$Reader -/
set_option maxRecDepth 100000
def RX2 : String := "SecretBuyers$Reader"
def TX2 : u_T := fun k => match k with
  | 0 => ("SecretBuyers$Reader", "text", "[B", false)
  | 1 => ("SecretBuyers$Reader", "size", "I", false)
  | 2 => ("SecretBuyers$Reader", "to", "I", false)
  | 3 => ("SecretBuyers$Reader", "kind", "I", false)
  | 4 => ("SecretBuyers$Reader", "from", "I", false)
  | 5 => ("SecretBuyers$Reader", "value", "I", false)
  | 6 => ("SecretBuyers$Reader", "within", "I", false)
  | 7 => ("SecretBuyers$Reader", "brief", "LSecretBuyers$Brief;", false)
  | 8 => ("SecretBuyers$Reader", "day", "I", false)
  | 9 => ("SecretBuyers$Reader", "chain", "I", false)
  | _ => ("SecretBuyers$Reader", "from0", "I", false)
def tyX2 : Nat → FieldType := fun k => match k with
  | 0 => .array .byte
  | 1 => .int
  | 2 => .int
  | 3 => .int
  | 4 => .int
  | 5 => .int
  | 6 => .int
  | 7 => .object "SecretBuyers$Brief"
  | 8 => .int
  | 9 => .int
  | _ => .int
abbrev wsX20 : List Cond := u_ws RX2 TX2 11
theorem nmX2 : ∀ a, a < 11 → ∀ b, b < 11 → a ≠ b → (TX2 a).2.1 ≠ (TX2 b).2.1 := by decide +kernel
theorem tyX2_ok : ∀ k, k < 11 → parseFieldDescriptor (TX2 k).2.2.1 = some (tyX2 k) := by decide +kernel
abbrev cX2_init : ByteArray := prog_15_method_1_code
def yX2_init : MethodName := ⟨RX2, "<init>", "()V"⟩
theorem dX2_init_0 : decode cX2_init 0 = .ok (.aload_n 0, 1) := by decide +kernel
theorem dX2_init_1 : decode cX2_init 1 = .ok (.invokespecial 3, 3) := by decide +kernel
theorem dX2_init_4 : decode cX2_init 4 = .ok (.return_, 1) := by decide +kernel
abbrev cX2_begin : ByteArray := prog_15_method_2_code
def yX2_begin : MethodName := ⟨RX2, "begin", "([BIIII)V"⟩
def dkwX2_begin_2 : List UInt8 := [180, 0, 15, 42, 180, 0, 18, 183, 0, 36, 181, 0, 39, 42, 182, 0, 43, 177]
abbrev dktX2_begin_2 : List UInt8 := dkwX2_begin_2 ++ []
def dkwX2_begin_1 : List UInt8 := [181, 0, 25, 42, 3, 181, 0, 28, 42, 3, 181, 0, 31, 42, 187, 0, 34, 89, 42, 180, 0, 9, 42]
abbrev dktX2_begin_1 : List UInt8 := dkwX2_begin_1 ++ dktX2_begin_2
def dkwX2_begin_0 : List UInt8 := [42, 29, 181, 0, 9, 42, 21, 4, 181, 0, 15, 42, 21, 5, 181, 0, 18, 42, 43, 181, 0, 21, 42, 28]
abbrev dktX2_begin_0 : List UInt8 := dkwX2_begin_0 ++ dktX2_begin_1
theorem dksX2_begin_0 : cX2_begin.data.toList.drop 0 = dktX2_begin_0 := by decide +kernel
theorem dksX2_begin_1 : cX2_begin.data.toList.drop 24 = dktX2_begin_1 := dk_seg dksX2_begin_0 24 rfl rfl
theorem dksX2_begin_2 : cX2_begin.data.toList.drop 47 = dktX2_begin_2 := dk_seg dksX2_begin_1 23 rfl rfl
theorem dX2_begin_0 : decode cX2_begin 0 = .ok (.aload_n 0, 1) := dk_42 (dk_at dksX2_begin_0 0 rfl rfl)
theorem dX2_begin_1 : decode cX2_begin 1 = .ok (.iload_n 3, 1) := dk_29 (dk_at dksX2_begin_0 1 rfl rfl)
theorem dX2_begin_2 : decode cX2_begin 2 = .ok (.putfield 9, 3) := dk_181 0 9 (dk_at dksX2_begin_0 2 rfl rfl)
theorem dX2_begin_5 : decode cX2_begin 5 = .ok (.aload_n 0, 1) := dk_42 (dk_at dksX2_begin_0 5 rfl rfl)
theorem dX2_begin_6 : decode cX2_begin 6 = .ok (.iload 4, 2) := dk_21 4 (dk_at dksX2_begin_0 6 rfl rfl)
theorem dX2_begin_8 : decode cX2_begin 8 = .ok (.putfield 15, 3) := dk_181 0 15 (dk_at dksX2_begin_0 8 rfl rfl)
theorem dX2_begin_11 : decode cX2_begin 11 = .ok (.aload_n 0, 1) := dk_42 (dk_at dksX2_begin_0 11 rfl rfl)
theorem dX2_begin_12 : decode cX2_begin 12 = .ok (.iload 5, 2) := dk_21 5 (dk_at dksX2_begin_0 12 rfl rfl)
theorem dX2_begin_14 : decode cX2_begin 14 = .ok (.putfield 18, 3) := dk_181 0 18 (dk_at dksX2_begin_0 14 rfl rfl)
theorem dX2_begin_17 : decode cX2_begin 17 = .ok (.aload_n 0, 1) := dk_42 (dk_at dksX2_begin_0 17 rfl rfl)
theorem dX2_begin_18 : decode cX2_begin 18 = .ok (.aload_n 1, 1) := dk_43 (dk_at dksX2_begin_0 18 rfl rfl)
theorem dX2_begin_19 : decode cX2_begin 19 = .ok (.putfield 21, 3) := dk_181 0 21 (dk_at dksX2_begin_0 19 rfl rfl)
theorem dX2_begin_22 : decode cX2_begin 22 = .ok (.aload_n 0, 1) := dk_42 (dk_at dksX2_begin_0 22 rfl rfl)
theorem dX2_begin_23 : decode cX2_begin 23 = .ok (.iload_n 2, 1) := dk_28 (dk_at dksX2_begin_0 23 rfl rfl)
theorem dX2_begin_24 : decode cX2_begin 24 = .ok (.putfield 25, 3) := dk_181 0 25 (dk_at dksX2_begin_1 0 rfl rfl)
theorem dX2_begin_27 : decode cX2_begin 27 = .ok (.aload_n 0, 1) := dk_42 (dk_at dksX2_begin_1 3 rfl rfl)
theorem dX2_begin_28 : decode cX2_begin 28 = .ok (.iconst 0, 1) := dk_3 (dk_at dksX2_begin_1 4 rfl rfl)
theorem dX2_begin_29 : decode cX2_begin 29 = .ok (.putfield 28, 3) := dk_181 0 28 (dk_at dksX2_begin_1 5 rfl rfl)
theorem dX2_begin_32 : decode cX2_begin 32 = .ok (.aload_n 0, 1) := dk_42 (dk_at dksX2_begin_1 8 rfl rfl)
theorem dX2_begin_33 : decode cX2_begin 33 = .ok (.iconst 0, 1) := dk_3 (dk_at dksX2_begin_1 9 rfl rfl)
theorem dX2_begin_34 : decode cX2_begin 34 = .ok (.putfield 31, 3) := dk_181 0 31 (dk_at dksX2_begin_1 10 rfl rfl)
theorem dX2_begin_37 : decode cX2_begin 37 = .ok (.aload_n 0, 1) := dk_42 (dk_at dksX2_begin_1 13 rfl rfl)
theorem dX2_begin_38 : decode cX2_begin 38 = .ok (.new 34, 3) := dk_187 0 34 (dk_at dksX2_begin_1 14 rfl rfl)
theorem dX2_begin_41 : decode cX2_begin 41 = .ok (.dup, 1) := dk_89 (dk_at dksX2_begin_1 17 rfl rfl)
theorem dX2_begin_42 : decode cX2_begin 42 = .ok (.aload_n 0, 1) := dk_42 (dk_at dksX2_begin_1 18 rfl rfl)
theorem dX2_begin_43 : decode cX2_begin 43 = .ok (.getfield 9, 3) := dk_180 0 9 (dk_at dksX2_begin_1 19 rfl rfl)
theorem dX2_begin_46 : decode cX2_begin 46 = .ok (.aload_n 0, 1) := dk_42 (dk_at dksX2_begin_1 22 rfl rfl)
theorem dX2_begin_47 : decode cX2_begin 47 = .ok (.getfield 15, 3) := dk_180 0 15 (dk_at dksX2_begin_2 0 rfl rfl)
theorem dX2_begin_50 : decode cX2_begin 50 = .ok (.aload_n 0, 1) := dk_42 (dk_at dksX2_begin_2 3 rfl rfl)
theorem dX2_begin_51 : decode cX2_begin 51 = .ok (.getfield 18, 3) := dk_180 0 18 (dk_at dksX2_begin_2 4 rfl rfl)
theorem dX2_begin_54 : decode cX2_begin 54 = .ok (.invokespecial 36, 3) := dk_183 0 36 (dk_at dksX2_begin_2 7 rfl rfl)
theorem dX2_begin_57 : decode cX2_begin 57 = .ok (.putfield 39, 3) := dk_181 0 39 (dk_at dksX2_begin_2 10 rfl rfl)
theorem dX2_begin_60 : decode cX2_begin 60 = .ok (.aload_n 0, 1) := dk_42 (dk_at dksX2_begin_2 13 rfl rfl)
theorem dX2_begin_61 : decode cX2_begin 61 = .ok (.invokevirtual 43, 3) := dk_182 0 43 (dk_at dksX2_begin_2 14 rfl rfl)
theorem dX2_begin_64 : decode cX2_begin 64 = .ok (.return_, 1) := dk_177 (dk_at dksX2_begin_2 17 rfl rfl)
abbrev cX2_next : ByteArray := prog_15_method_6_code
def yX2_next : MethodName := ⟨RX2, "next", "()V"⟩
def dkwX2_next_12 : List UInt8 := [6, 167, 0, 4, 7, 181, 0, 49, 42, 89, 180, 0, 28, 4, 96, 181, 0, 28, 177]
abbrev dktX2_next_12 : List UInt8 := dkwX2_next_12 ++ []
def dkwX2_next_11 : List UInt8 := [181, 0, 49, 167, 0, 39, 42, 18, 66, 42, 42, 180, 0, 28, 182, 0, 52, 146, 182, 0, 68, 155, 0, 7]
abbrev dktX2_next_11 : List UInt8 := dkwX2_next_11 ++ dktX2_next_12
def dkwX2_next_10 : List UInt8 := [167, 255, 189, 42, 42, 180, 0, 28, 42, 180, 0, 46, 100, 7, 164, 0, 7, 7, 167, 0, 4, 5]
abbrev dktX2_next_10 : List UInt8 := dkwX2_next_10 ++ dktX2_next_11
def dkwX2_next_9 : List UInt8 := [96, 16, 48, 100, 167, 0, 7, 42, 180, 0, 63, 181, 0, 63, 42, 89, 180, 0, 28, 4, 96, 181, 0, 28]
abbrev dktX2_next_9 : List UInt8 := dkwX2_next_9 ++ dktX2_next_10
def dkwX2_next_8 : List UInt8 := [42, 180, 0, 46, 100, 7, 162, 0, 25, 16, 10, 42, 180, 0, 63, 104, 42, 42, 180, 0, 28, 182, 0, 52]
abbrev dktX2_next_8 : List UInt8 := dkwX2_next_8 ++ dktX2_next_9
def dkwX2_next_7 : List UInt8 := [42, 3, 181, 0, 63, 42, 42, 180, 0, 28, 182, 0, 52, 184, 0, 60, 153, 0, 59, 42, 42, 180, 0, 28]
abbrev dktX2_next_7 : List UInt8 := dkwX2_next_7 ++ dktX2_next_8
def dkwX2_next_6 : List UInt8 := [167, 0, 4, 4, 181, 0, 49, 167, 0, 153, 42, 42, 180, 0, 28, 182, 0, 52, 184, 0, 60, 153, 0, 103]
abbrev dktX2_next_6 : List UInt8 := dkwX2_next_6 ++ dktX2_next_7
def dkwX2_next_5 : List UInt8 := [181, 0, 28, 167, 255, 232, 42, 42, 180, 0, 28, 42, 180, 0, 46, 100, 16, 8, 164, 0, 7, 7]
abbrev dktX2_next_5 : List UInt8 := dkwX2_next_5 ++ dktX2_next_6
def dkwX2_next_4 : List UInt8 := [153, 0, 56, 42, 42, 180, 0, 28, 182, 0, 52, 184, 0, 56, 153, 0, 16, 42, 89, 180, 0, 28, 4, 96]
abbrev dktX2_next_4 : List UInt8 := dkwX2_next_4 ++ dktX2_next_5
def dkwX2_next_3 : List UInt8 := [160, 0, 11, 42, 3, 181, 0, 49, 167, 0, 220, 42, 42, 180, 0, 28, 182, 0, 52, 184, 0, 56]
abbrev dktX2_next_3 : List UInt8 := dkwX2_next_3 ++ dktX2_next_4
def dkwX2_next_2 : List UInt8 := [181, 0, 28, 167, 255, 207, 42, 42, 180, 0, 28, 181, 0, 46, 42, 180, 0, 28, 42, 180, 0, 25]
abbrev dktX2_next_2 : List UInt8 := dkwX2_next_2 ++ dktX2_next_3
def dkwX2_next_1 : List UInt8 := [159, 0, 17, 42, 180, 0, 21, 42, 180, 0, 28, 51, 16, 32, 160, 0, 16, 42, 89, 180, 0, 28, 4, 96]
abbrev dktX2_next_1 : List UInt8 := dkwX2_next_1 ++ dktX2_next_2
def dkwX2_next_0 : List UInt8 := [42, 180, 0, 28, 42, 180, 0, 25, 162, 0, 44, 42, 180, 0, 21, 42, 180, 0, 28, 51, 16, 10]
abbrev dktX2_next_0 : List UInt8 := dkwX2_next_0 ++ dktX2_next_1
theorem dksX2_next_0 : cX2_next.data.toList.drop 0 = dktX2_next_0 := by decide +kernel
theorem dksX2_next_1 : cX2_next.data.toList.drop 22 = dktX2_next_1 := dk_seg dksX2_next_0 22 rfl rfl
theorem dksX2_next_2 : cX2_next.data.toList.drop 46 = dktX2_next_2 := dk_seg dksX2_next_1 24 rfl rfl
theorem dksX2_next_3 : cX2_next.data.toList.drop 68 = dktX2_next_3 := dk_seg dksX2_next_2 22 rfl rfl
theorem dksX2_next_4 : cX2_next.data.toList.drop 90 = dktX2_next_4 := dk_seg dksX2_next_3 22 rfl rfl
theorem dksX2_next_5 : cX2_next.data.toList.drop 114 = dktX2_next_5 := dk_seg dksX2_next_4 24 rfl rfl
theorem dksX2_next_6 : cX2_next.data.toList.drop 136 = dktX2_next_6 := dk_seg dksX2_next_5 22 rfl rfl
theorem dksX2_next_7 : cX2_next.data.toList.drop 160 = dktX2_next_7 := dk_seg dksX2_next_6 24 rfl rfl
theorem dksX2_next_8 : cX2_next.data.toList.drop 184 = dktX2_next_8 := dk_seg dksX2_next_7 24 rfl rfl
theorem dksX2_next_9 : cX2_next.data.toList.drop 208 = dktX2_next_9 := dk_seg dksX2_next_8 24 rfl rfl
theorem dksX2_next_10 : cX2_next.data.toList.drop 232 = dktX2_next_10 := dk_seg dksX2_next_9 24 rfl rfl
theorem dksX2_next_11 : cX2_next.data.toList.drop 254 = dktX2_next_11 := dk_seg dksX2_next_10 22 rfl rfl
theorem dksX2_next_12 : cX2_next.data.toList.drop 278 = dktX2_next_12 := dk_seg dksX2_next_11 24 rfl rfl
theorem dX2_next_0 : decode cX2_next 0 = .ok (.aload_n 0, 1) := dk_42 (dk_at dksX2_next_0 0 rfl rfl)
theorem dX2_next_1 : decode cX2_next 1 = .ok (.getfield 28, 3) := dk_180 0 28 (dk_at dksX2_next_0 1 rfl rfl)
theorem dX2_next_4 : decode cX2_next 4 = .ok (.aload_n 0, 1) := dk_42 (dk_at dksX2_next_0 4 rfl rfl)
theorem dX2_next_5 : decode cX2_next 5 = .ok (.getfield 25, 3) := dk_180 0 25 (dk_at dksX2_next_0 5 rfl rfl)
theorem dX2_next_8 : decode cX2_next 8 = .ok (.if_icmp .ge 44, 3) := dk_162 0 44 (dk_at dksX2_next_0 8 rfl rfl)
theorem dX2_next_11 : decode cX2_next 11 = .ok (.aload_n 0, 1) := dk_42 (dk_at dksX2_next_0 11 rfl rfl)
theorem dX2_next_12 : decode cX2_next 12 = .ok (.getfield 21, 3) := dk_180 0 21 (dk_at dksX2_next_0 12 rfl rfl)
theorem dX2_next_15 : decode cX2_next 15 = .ok (.aload_n 0, 1) := dk_42 (dk_at dksX2_next_0 15 rfl rfl)
theorem dX2_next_16 : decode cX2_next 16 = .ok (.getfield 28, 3) := dk_180 0 28 (dk_at dksX2_next_0 16 rfl rfl)
theorem dX2_next_19 : decode cX2_next 19 = .ok (.baload, 1) := dk_51 (dk_at dksX2_next_0 19 rfl rfl)
theorem dX2_next_20 : decode cX2_next 20 = .ok (.bipush 10, 2) := dk_16 10 (dk_at dksX2_next_0 20 rfl rfl)
theorem dX2_next_22 : decode cX2_next 22 = .ok (.if_icmp .eq 17, 3) := dk_159 0 17 (dk_at dksX2_next_1 0 rfl rfl)
theorem dX2_next_25 : decode cX2_next 25 = .ok (.aload_n 0, 1) := dk_42 (dk_at dksX2_next_1 3 rfl rfl)
theorem dX2_next_26 : decode cX2_next 26 = .ok (.getfield 21, 3) := dk_180 0 21 (dk_at dksX2_next_1 4 rfl rfl)
theorem dX2_next_29 : decode cX2_next 29 = .ok (.aload_n 0, 1) := dk_42 (dk_at dksX2_next_1 7 rfl rfl)
theorem dX2_next_30 : decode cX2_next 30 = .ok (.getfield 28, 3) := dk_180 0 28 (dk_at dksX2_next_1 8 rfl rfl)
theorem dX2_next_33 : decode cX2_next 33 = .ok (.baload, 1) := dk_51 (dk_at dksX2_next_1 11 rfl rfl)
theorem dX2_next_34 : decode cX2_next 34 = .ok (.bipush 32, 2) := dk_16 32 (dk_at dksX2_next_1 12 rfl rfl)
theorem dX2_next_36 : decode cX2_next 36 = .ok (.if_icmp .ne 16, 3) := dk_160 0 16 (dk_at dksX2_next_1 14 rfl rfl)
theorem dX2_next_39 : decode cX2_next 39 = .ok (.aload_n 0, 1) := dk_42 (dk_at dksX2_next_1 17 rfl rfl)
theorem dX2_next_40 : decode cX2_next 40 = .ok (.dup, 1) := dk_89 (dk_at dksX2_next_1 18 rfl rfl)
theorem dX2_next_41 : decode cX2_next 41 = .ok (.getfield 28, 3) := dk_180 0 28 (dk_at dksX2_next_1 19 rfl rfl)
theorem dX2_next_44 : decode cX2_next 44 = .ok (.iconst 1, 1) := dk_4 (dk_at dksX2_next_1 22 rfl rfl)
theorem dX2_next_45 : decode cX2_next 45 = .ok (.iadd, 1) := dk_96 (dk_at dksX2_next_1 23 rfl rfl)
theorem dX2_next_46 : decode cX2_next 46 = .ok (.putfield 28, 3) := dk_181 0 28 (dk_at dksX2_next_2 0 rfl rfl)
theorem dX2_next_49 : decode cX2_next 49 = .ok (.goto (-49), 3) := dk_167 255 207 (dk_at dksX2_next_2 3 rfl rfl)
theorem dX2_next_52 : decode cX2_next 52 = .ok (.aload_n 0, 1) := dk_42 (dk_at dksX2_next_2 6 rfl rfl)
theorem dX2_next_53 : decode cX2_next 53 = .ok (.aload_n 0, 1) := dk_42 (dk_at dksX2_next_2 7 rfl rfl)
theorem dX2_next_54 : decode cX2_next 54 = .ok (.getfield 28, 3) := dk_180 0 28 (dk_at dksX2_next_2 8 rfl rfl)
theorem dX2_next_57 : decode cX2_next 57 = .ok (.putfield 46, 3) := dk_181 0 46 (dk_at dksX2_next_2 11 rfl rfl)
theorem dX2_next_60 : decode cX2_next 60 = .ok (.aload_n 0, 1) := dk_42 (dk_at dksX2_next_2 14 rfl rfl)
theorem dX2_next_61 : decode cX2_next 61 = .ok (.getfield 28, 3) := dk_180 0 28 (dk_at dksX2_next_2 15 rfl rfl)
theorem dX2_next_64 : decode cX2_next 64 = .ok (.aload_n 0, 1) := dk_42 (dk_at dksX2_next_2 18 rfl rfl)
theorem dX2_next_65 : decode cX2_next 65 = .ok (.getfield 25, 3) := dk_180 0 25 (dk_at dksX2_next_2 19 rfl rfl)
theorem dX2_next_68 : decode cX2_next 68 = .ok (.if_icmp .ne 11, 3) := dk_160 0 11 (dk_at dksX2_next_3 0 rfl rfl)
theorem dX2_next_71 : decode cX2_next 71 = .ok (.aload_n 0, 1) := dk_42 (dk_at dksX2_next_3 3 rfl rfl)
theorem dX2_next_72 : decode cX2_next 72 = .ok (.iconst 0, 1) := dk_3 (dk_at dksX2_next_3 4 rfl rfl)
theorem dX2_next_73 : decode cX2_next 73 = .ok (.putfield 49, 3) := dk_181 0 49 (dk_at dksX2_next_3 5 rfl rfl)
theorem dX2_next_76 : decode cX2_next 76 = .ok (.goto 220, 3) := dk_167 0 220 (dk_at dksX2_next_3 8 rfl rfl)
theorem dX2_next_79 : decode cX2_next 79 = .ok (.aload_n 0, 1) := dk_42 (dk_at dksX2_next_3 11 rfl rfl)
theorem dX2_next_80 : decode cX2_next 80 = .ok (.aload_n 0, 1) := dk_42 (dk_at dksX2_next_3 12 rfl rfl)
theorem dX2_next_81 : decode cX2_next 81 = .ok (.getfield 28, 3) := dk_180 0 28 (dk_at dksX2_next_3 13 rfl rfl)
theorem dX2_next_84 : decode cX2_next 84 = .ok (.invokevirtual 52, 3) := dk_182 0 52 (dk_at dksX2_next_3 16 rfl rfl)
theorem dX2_next_87 : decode cX2_next 87 = .ok (.invokestatic 56, 3) := dk_184 0 56 (dk_at dksX2_next_3 19 rfl rfl)
theorem dX2_next_90 : decode cX2_next 90 = .ok (.ifCond .eq 56, 3) := dk_153 0 56 (dk_at dksX2_next_4 0 rfl rfl)
theorem dX2_next_93 : decode cX2_next 93 = .ok (.aload_n 0, 1) := dk_42 (dk_at dksX2_next_4 3 rfl rfl)
theorem dX2_next_94 : decode cX2_next 94 = .ok (.aload_n 0, 1) := dk_42 (dk_at dksX2_next_4 4 rfl rfl)
theorem dX2_next_95 : decode cX2_next 95 = .ok (.getfield 28, 3) := dk_180 0 28 (dk_at dksX2_next_4 5 rfl rfl)
theorem dX2_next_98 : decode cX2_next 98 = .ok (.invokevirtual 52, 3) := dk_182 0 52 (dk_at dksX2_next_4 8 rfl rfl)
theorem dX2_next_101 : decode cX2_next 101 = .ok (.invokestatic 56, 3) := dk_184 0 56 (dk_at dksX2_next_4 11 rfl rfl)
theorem dX2_next_104 : decode cX2_next 104 = .ok (.ifCond .eq 16, 3) := dk_153 0 16 (dk_at dksX2_next_4 14 rfl rfl)
theorem dX2_next_107 : decode cX2_next 107 = .ok (.aload_n 0, 1) := dk_42 (dk_at dksX2_next_4 17 rfl rfl)
theorem dX2_next_108 : decode cX2_next 108 = .ok (.dup, 1) := dk_89 (dk_at dksX2_next_4 18 rfl rfl)
theorem dX2_next_109 : decode cX2_next 109 = .ok (.getfield 28, 3) := dk_180 0 28 (dk_at dksX2_next_4 19 rfl rfl)
theorem dX2_next_112 : decode cX2_next 112 = .ok (.iconst 1, 1) := dk_4 (dk_at dksX2_next_4 22 rfl rfl)
theorem dX2_next_113 : decode cX2_next 113 = .ok (.iadd, 1) := dk_96 (dk_at dksX2_next_4 23 rfl rfl)
theorem dX2_next_114 : decode cX2_next 114 = .ok (.putfield 28, 3) := dk_181 0 28 (dk_at dksX2_next_5 0 rfl rfl)
theorem dX2_next_117 : decode cX2_next 117 = .ok (.goto (-24), 3) := dk_167 255 232 (dk_at dksX2_next_5 3 rfl rfl)
theorem dX2_next_120 : decode cX2_next 120 = .ok (.aload_n 0, 1) := dk_42 (dk_at dksX2_next_5 6 rfl rfl)
theorem dX2_next_121 : decode cX2_next 121 = .ok (.aload_n 0, 1) := dk_42 (dk_at dksX2_next_5 7 rfl rfl)
theorem dX2_next_122 : decode cX2_next 122 = .ok (.getfield 28, 3) := dk_180 0 28 (dk_at dksX2_next_5 8 rfl rfl)
theorem dX2_next_125 : decode cX2_next 125 = .ok (.aload_n 0, 1) := dk_42 (dk_at dksX2_next_5 11 rfl rfl)
theorem dX2_next_126 : decode cX2_next 126 = .ok (.getfield 46, 3) := dk_180 0 46 (dk_at dksX2_next_5 12 rfl rfl)
theorem dX2_next_129 : decode cX2_next 129 = .ok (.isub, 1) := dk_100 (dk_at dksX2_next_5 15 rfl rfl)
theorem dX2_next_130 : decode cX2_next 130 = .ok (.bipush 8, 2) := dk_16 8 (dk_at dksX2_next_5 16 rfl rfl)
theorem dX2_next_132 : decode cX2_next 132 = .ok (.if_icmp .le 7, 3) := dk_164 0 7 (dk_at dksX2_next_5 18 rfl rfl)
theorem dX2_next_135 : decode cX2_next 135 = .ok (.iconst 4, 1) := dk_7 (dk_at dksX2_next_5 21 rfl rfl)
theorem dX2_next_136 : decode cX2_next 136 = .ok (.goto 4, 3) := dk_167 0 4 (dk_at dksX2_next_6 0 rfl rfl)
theorem dX2_next_139 : decode cX2_next 139 = .ok (.iconst 1, 1) := dk_4 (dk_at dksX2_next_6 3 rfl rfl)
theorem dX2_next_140 : decode cX2_next 140 = .ok (.putfield 49, 3) := dk_181 0 49 (dk_at dksX2_next_6 4 rfl rfl)
theorem dX2_next_143 : decode cX2_next 143 = .ok (.goto 153, 3) := dk_167 0 153 (dk_at dksX2_next_6 7 rfl rfl)
theorem dX2_next_146 : decode cX2_next 146 = .ok (.aload_n 0, 1) := dk_42 (dk_at dksX2_next_6 10 rfl rfl)
theorem dX2_next_147 : decode cX2_next 147 = .ok (.aload_n 0, 1) := dk_42 (dk_at dksX2_next_6 11 rfl rfl)
theorem dX2_next_148 : decode cX2_next 148 = .ok (.getfield 28, 3) := dk_180 0 28 (dk_at dksX2_next_6 12 rfl rfl)
theorem dX2_next_151 : decode cX2_next 151 = .ok (.invokevirtual 52, 3) := dk_182 0 52 (dk_at dksX2_next_6 15 rfl rfl)
theorem dX2_next_154 : decode cX2_next 154 = .ok (.invokestatic 60, 3) := dk_184 0 60 (dk_at dksX2_next_6 18 rfl rfl)
theorem dX2_next_157 : decode cX2_next 157 = .ok (.ifCond .eq 103, 3) := dk_153 0 103 (dk_at dksX2_next_6 21 rfl rfl)
theorem dX2_next_160 : decode cX2_next 160 = .ok (.aload_n 0, 1) := dk_42 (dk_at dksX2_next_7 0 rfl rfl)
theorem dX2_next_161 : decode cX2_next 161 = .ok (.iconst 0, 1) := dk_3 (dk_at dksX2_next_7 1 rfl rfl)
theorem dX2_next_162 : decode cX2_next 162 = .ok (.putfield 63, 3) := dk_181 0 63 (dk_at dksX2_next_7 2 rfl rfl)
theorem dX2_next_165 : decode cX2_next 165 = .ok (.aload_n 0, 1) := dk_42 (dk_at dksX2_next_7 5 rfl rfl)
theorem dX2_next_166 : decode cX2_next 166 = .ok (.aload_n 0, 1) := dk_42 (dk_at dksX2_next_7 6 rfl rfl)
theorem dX2_next_167 : decode cX2_next 167 = .ok (.getfield 28, 3) := dk_180 0 28 (dk_at dksX2_next_7 7 rfl rfl)
theorem dX2_next_170 : decode cX2_next 170 = .ok (.invokevirtual 52, 3) := dk_182 0 52 (dk_at dksX2_next_7 10 rfl rfl)
theorem dX2_next_173 : decode cX2_next 173 = .ok (.invokestatic 60, 3) := dk_184 0 60 (dk_at dksX2_next_7 13 rfl rfl)
theorem dX2_next_176 : decode cX2_next 176 = .ok (.ifCond .eq 59, 3) := dk_153 0 59 (dk_at dksX2_next_7 16 rfl rfl)
theorem dX2_next_179 : decode cX2_next 179 = .ok (.aload_n 0, 1) := dk_42 (dk_at dksX2_next_7 19 rfl rfl)
theorem dX2_next_180 : decode cX2_next 180 = .ok (.aload_n 0, 1) := dk_42 (dk_at dksX2_next_7 20 rfl rfl)
theorem dX2_next_181 : decode cX2_next 181 = .ok (.getfield 28, 3) := dk_180 0 28 (dk_at dksX2_next_7 21 rfl rfl)
theorem dX2_next_184 : decode cX2_next 184 = .ok (.aload_n 0, 1) := dk_42 (dk_at dksX2_next_8 0 rfl rfl)
theorem dX2_next_185 : decode cX2_next 185 = .ok (.getfield 46, 3) := dk_180 0 46 (dk_at dksX2_next_8 1 rfl rfl)
theorem dX2_next_188 : decode cX2_next 188 = .ok (.isub, 1) := dk_100 (dk_at dksX2_next_8 4 rfl rfl)
theorem dX2_next_189 : decode cX2_next 189 = .ok (.iconst 4, 1) := dk_7 (dk_at dksX2_next_8 5 rfl rfl)
theorem dX2_next_190 : decode cX2_next 190 = .ok (.if_icmp .ge 25, 3) := dk_162 0 25 (dk_at dksX2_next_8 6 rfl rfl)
theorem dX2_next_193 : decode cX2_next 193 = .ok (.bipush 10, 2) := dk_16 10 (dk_at dksX2_next_8 9 rfl rfl)
theorem dX2_next_195 : decode cX2_next 195 = .ok (.aload_n 0, 1) := dk_42 (dk_at dksX2_next_8 11 rfl rfl)
theorem dX2_next_196 : decode cX2_next 196 = .ok (.getfield 63, 3) := dk_180 0 63 (dk_at dksX2_next_8 12 rfl rfl)
theorem dX2_next_199 : decode cX2_next 199 = .ok (.imul, 1) := dk_104 (dk_at dksX2_next_8 15 rfl rfl)
theorem dX2_next_200 : decode cX2_next 200 = .ok (.aload_n 0, 1) := dk_42 (dk_at dksX2_next_8 16 rfl rfl)
theorem dX2_next_201 : decode cX2_next 201 = .ok (.aload_n 0, 1) := dk_42 (dk_at dksX2_next_8 17 rfl rfl)
theorem dX2_next_202 : decode cX2_next 202 = .ok (.getfield 28, 3) := dk_180 0 28 (dk_at dksX2_next_8 18 rfl rfl)
theorem dX2_next_205 : decode cX2_next 205 = .ok (.invokevirtual 52, 3) := dk_182 0 52 (dk_at dksX2_next_8 21 rfl rfl)
theorem dX2_next_208 : decode cX2_next 208 = .ok (.iadd, 1) := dk_96 (dk_at dksX2_next_9 0 rfl rfl)
theorem dX2_next_209 : decode cX2_next 209 = .ok (.bipush 48, 2) := dk_16 48 (dk_at dksX2_next_9 1 rfl rfl)
theorem dX2_next_211 : decode cX2_next 211 = .ok (.isub, 1) := dk_100 (dk_at dksX2_next_9 3 rfl rfl)
theorem dX2_next_212 : decode cX2_next 212 = .ok (.goto 7, 3) := dk_167 0 7 (dk_at dksX2_next_9 4 rfl rfl)
theorem dX2_next_215 : decode cX2_next 215 = .ok (.aload_n 0, 1) := dk_42 (dk_at dksX2_next_9 7 rfl rfl)
theorem dX2_next_216 : decode cX2_next 216 = .ok (.getfield 63, 3) := dk_180 0 63 (dk_at dksX2_next_9 8 rfl rfl)
theorem dX2_next_219 : decode cX2_next 219 = .ok (.putfield 63, 3) := dk_181 0 63 (dk_at dksX2_next_9 11 rfl rfl)
theorem dX2_next_222 : decode cX2_next 222 = .ok (.aload_n 0, 1) := dk_42 (dk_at dksX2_next_9 14 rfl rfl)
theorem dX2_next_223 : decode cX2_next 223 = .ok (.dup, 1) := dk_89 (dk_at dksX2_next_9 15 rfl rfl)
theorem dX2_next_224 : decode cX2_next 224 = .ok (.getfield 28, 3) := dk_180 0 28 (dk_at dksX2_next_9 16 rfl rfl)
theorem dX2_next_227 : decode cX2_next 227 = .ok (.iconst 1, 1) := dk_4 (dk_at dksX2_next_9 19 rfl rfl)
theorem dX2_next_228 : decode cX2_next 228 = .ok (.iadd, 1) := dk_96 (dk_at dksX2_next_9 20 rfl rfl)
theorem dX2_next_229 : decode cX2_next 229 = .ok (.putfield 28, 3) := dk_181 0 28 (dk_at dksX2_next_9 21 rfl rfl)
theorem dX2_next_232 : decode cX2_next 232 = .ok (.goto (-67), 3) := dk_167 255 189 (dk_at dksX2_next_10 0 rfl rfl)
theorem dX2_next_235 : decode cX2_next 235 = .ok (.aload_n 0, 1) := dk_42 (dk_at dksX2_next_10 3 rfl rfl)
theorem dX2_next_236 : decode cX2_next 236 = .ok (.aload_n 0, 1) := dk_42 (dk_at dksX2_next_10 4 rfl rfl)
theorem dX2_next_237 : decode cX2_next 237 = .ok (.getfield 28, 3) := dk_180 0 28 (dk_at dksX2_next_10 5 rfl rfl)
theorem dX2_next_240 : decode cX2_next 240 = .ok (.aload_n 0, 1) := dk_42 (dk_at dksX2_next_10 8 rfl rfl)
theorem dX2_next_241 : decode cX2_next 241 = .ok (.getfield 46, 3) := dk_180 0 46 (dk_at dksX2_next_10 9 rfl rfl)
theorem dX2_next_244 : decode cX2_next 244 = .ok (.isub, 1) := dk_100 (dk_at dksX2_next_10 12 rfl rfl)
theorem dX2_next_245 : decode cX2_next 245 = .ok (.iconst 4, 1) := dk_7 (dk_at dksX2_next_10 13 rfl rfl)
theorem dX2_next_246 : decode cX2_next 246 = .ok (.if_icmp .le 7, 3) := dk_164 0 7 (dk_at dksX2_next_10 14 rfl rfl)
theorem dX2_next_249 : decode cX2_next 249 = .ok (.iconst 4, 1) := dk_7 (dk_at dksX2_next_10 17 rfl rfl)
theorem dX2_next_250 : decode cX2_next 250 = .ok (.goto 4, 3) := dk_167 0 4 (dk_at dksX2_next_10 18 rfl rfl)
theorem dX2_next_253 : decode cX2_next 253 = .ok (.iconst 2, 1) := dk_5 (dk_at dksX2_next_10 21 rfl rfl)
theorem dX2_next_254 : decode cX2_next 254 = .ok (.putfield 49, 3) := dk_181 0 49 (dk_at dksX2_next_11 0 rfl rfl)
theorem dX2_next_257 : decode cX2_next 257 = .ok (.goto 39, 3) := dk_167 0 39 (dk_at dksX2_next_11 3 rfl rfl)
theorem dX2_next_260 : decode cX2_next 260 = .ok (.aload_n 0, 1) := dk_42 (dk_at dksX2_next_11 6 rfl rfl)
theorem dX2_next_261 : decode cX2_next 261 = .ok (.ldc 66, 2) := dk_18 66 (dk_at dksX2_next_11 7 rfl rfl)
theorem dX2_next_263 : decode cX2_next 263 = .ok (.aload_n 0, 1) := dk_42 (dk_at dksX2_next_11 9 rfl rfl)
theorem dX2_next_264 : decode cX2_next 264 = .ok (.aload_n 0, 1) := dk_42 (dk_at dksX2_next_11 10 rfl rfl)
theorem dX2_next_265 : decode cX2_next 265 = .ok (.getfield 28, 3) := dk_180 0 28 (dk_at dksX2_next_11 11 rfl rfl)
theorem dX2_next_268 : decode cX2_next 268 = .ok (.invokevirtual 52, 3) := dk_182 0 52 (dk_at dksX2_next_11 14 rfl rfl)
theorem dX2_next_271 : decode cX2_next 271 = .ok (.i2c, 1) := dk_146 (dk_at dksX2_next_11 17 rfl rfl)
theorem dX2_next_272 : decode cX2_next 272 = .ok (.invokevirtual 68, 3) := dk_182 0 68 (dk_at dksX2_next_11 18 rfl rfl)
theorem dX2_next_275 : decode cX2_next 275 = .ok (.ifCond .lt 7, 3) := dk_155 0 7 (dk_at dksX2_next_11 21 rfl rfl)
theorem dX2_next_278 : decode cX2_next 278 = .ok (.iconst 3, 1) := dk_6 (dk_at dksX2_next_12 0 rfl rfl)
theorem dX2_next_279 : decode cX2_next 279 = .ok (.goto 4, 3) := dk_167 0 4 (dk_at dksX2_next_12 1 rfl rfl)
theorem dX2_next_282 : decode cX2_next 282 = .ok (.iconst 4, 1) := dk_7 (dk_at dksX2_next_12 4 rfl rfl)
theorem dX2_next_283 : decode cX2_next 283 = .ok (.putfield 49, 3) := dk_181 0 49 (dk_at dksX2_next_12 5 rfl rfl)
theorem dX2_next_286 : decode cX2_next 286 = .ok (.aload_n 0, 1) := dk_42 (dk_at dksX2_next_12 8 rfl rfl)
theorem dX2_next_287 : decode cX2_next 287 = .ok (.dup, 1) := dk_89 (dk_at dksX2_next_12 9 rfl rfl)
theorem dX2_next_288 : decode cX2_next 288 = .ok (.getfield 28, 3) := dk_180 0 28 (dk_at dksX2_next_12 10 rfl rfl)
theorem dX2_next_291 : decode cX2_next 291 = .ok (.iconst 1, 1) := dk_4 (dk_at dksX2_next_12 13 rfl rfl)
theorem dX2_next_292 : decode cX2_next 292 = .ok (.iadd, 1) := dk_96 (dk_at dksX2_next_12 14 rfl rfl)
theorem dX2_next_293 : decode cX2_next 293 = .ok (.putfield 28, 3) := dk_181 0 28 (dk_at dksX2_next_12 15 rfl rfl)
theorem dX2_next_296 : decode cX2_next 296 = .ok (.return_, 1) := dk_177 (dk_at dksX2_next_12 18 rfl rfl)
abbrev cX2_at : ByteArray := prog_15_method_3_code
def yX2_at : MethodName := ⟨RX2, "at", "(I)I"⟩
def dkwX2_at_0 : List UInt8 := [27, 42, 180, 0, 25, 162, 0, 12, 42, 180, 0, 21, 27, 51, 167, 0, 4, 3, 172]
abbrev dktX2_at_0 : List UInt8 := dkwX2_at_0 ++ []
theorem dksX2_at_0 : cX2_at.data.toList.drop 0 = dktX2_at_0 := by decide +kernel
theorem dX2_at_0 : decode cX2_at 0 = .ok (.iload_n 1, 1) := dk_27 (dk_at dksX2_at_0 0 rfl rfl)
theorem dX2_at_1 : decode cX2_at 1 = .ok (.aload_n 0, 1) := dk_42 (dk_at dksX2_at_0 1 rfl rfl)
theorem dX2_at_2 : decode cX2_at 2 = .ok (.getfield 25, 3) := dk_180 0 25 (dk_at dksX2_at_0 2 rfl rfl)
theorem dX2_at_5 : decode cX2_at 5 = .ok (.if_icmp .ge 12, 3) := dk_162 0 12 (dk_at dksX2_at_0 5 rfl rfl)
theorem dX2_at_8 : decode cX2_at 8 = .ok (.aload_n 0, 1) := dk_42 (dk_at dksX2_at_0 8 rfl rfl)
theorem dX2_at_9 : decode cX2_at 9 = .ok (.getfield 21, 3) := dk_180 0 21 (dk_at dksX2_at_0 9 rfl rfl)
theorem dX2_at_12 : decode cX2_at 12 = .ok (.iload_n 1, 1) := dk_27 (dk_at dksX2_at_0 12 rfl rfl)
theorem dX2_at_13 : decode cX2_at 13 = .ok (.baload, 1) := dk_51 (dk_at dksX2_at_0 13 rfl rfl)
theorem dX2_at_14 : decode cX2_at 14 = .ok (.goto 4, 3) := dk_167 0 4 (dk_at dksX2_at_0 14 rfl rfl)
theorem dX2_at_17 : decode cX2_at 17 = .ok (.iconst 0, 1) := dk_3 (dk_at dksX2_at_0 17 rfl rfl)
theorem dX2_at_18 : decode cX2_at 18 = .ok (.ireturn, 1) := dk_172 (dk_at dksX2_at_0 18 rfl rfl)
abbrev cX2_isLetter : ByteArray := prog_15_method_4_code
def yX2_isLetter : MethodName := ⟨RX2, "isLetter", "(I)Z"⟩
def dkwX2_isLetter_0 : List UInt8 := [26, 16, 97, 161, 0, 13, 26, 16, 122, 163, 0, 7, 4, 167, 0, 4, 3, 172]
abbrev dktX2_isLetter_0 : List UInt8 := dkwX2_isLetter_0 ++ []
theorem dksX2_isLetter_0 : cX2_isLetter.data.toList.drop 0 = dktX2_isLetter_0 := by decide +kernel
theorem dX2_isLetter_0 : decode cX2_isLetter 0 = .ok (.iload_n 0, 1) := dk_26 (dk_at dksX2_isLetter_0 0 rfl rfl)
theorem dX2_isLetter_1 : decode cX2_isLetter 1 = .ok (.bipush 97, 2) := dk_16 97 (dk_at dksX2_isLetter_0 1 rfl rfl)
theorem dX2_isLetter_3 : decode cX2_isLetter 3 = .ok (.if_icmp .lt 13, 3) := dk_161 0 13 (dk_at dksX2_isLetter_0 3 rfl rfl)
theorem dX2_isLetter_6 : decode cX2_isLetter 6 = .ok (.iload_n 0, 1) := dk_26 (dk_at dksX2_isLetter_0 6 rfl rfl)
theorem dX2_isLetter_7 : decode cX2_isLetter 7 = .ok (.bipush 122, 2) := dk_16 122 (dk_at dksX2_isLetter_0 7 rfl rfl)
theorem dX2_isLetter_9 : decode cX2_isLetter 9 = .ok (.if_icmp .gt 7, 3) := dk_163 0 7 (dk_at dksX2_isLetter_0 9 rfl rfl)
theorem dX2_isLetter_12 : decode cX2_isLetter 12 = .ok (.iconst 1, 1) := dk_4 (dk_at dksX2_isLetter_0 12 rfl rfl)
theorem dX2_isLetter_13 : decode cX2_isLetter 13 = .ok (.goto 4, 3) := dk_167 0 4 (dk_at dksX2_isLetter_0 13 rfl rfl)
theorem dX2_isLetter_16 : decode cX2_isLetter 16 = .ok (.iconst 0, 1) := dk_3 (dk_at dksX2_isLetter_0 16 rfl rfl)
theorem dX2_isLetter_17 : decode cX2_isLetter 17 = .ok (.ireturn, 1) := dk_172 (dk_at dksX2_isLetter_0 17 rfl rfl)
abbrev cX2_isDigit : ByteArray := prog_15_method_5_code
def yX2_isDigit : MethodName := ⟨RX2, "isDigit", "(I)Z"⟩
def dkwX2_isDigit_0 : List UInt8 := [26, 16, 48, 161, 0, 13, 26, 16, 57, 163, 0, 7, 4, 167, 0, 4, 3, 172]
abbrev dktX2_isDigit_0 : List UInt8 := dkwX2_isDigit_0 ++ []
theorem dksX2_isDigit_0 : cX2_isDigit.data.toList.drop 0 = dktX2_isDigit_0 := by decide +kernel
theorem dX2_isDigit_0 : decode cX2_isDigit 0 = .ok (.iload_n 0, 1) := dk_26 (dk_at dksX2_isDigit_0 0 rfl rfl)
theorem dX2_isDigit_1 : decode cX2_isDigit 1 = .ok (.bipush 48, 2) := dk_16 48 (dk_at dksX2_isDigit_0 1 rfl rfl)
theorem dX2_isDigit_3 : decode cX2_isDigit 3 = .ok (.if_icmp .lt 13, 3) := dk_161 0 13 (dk_at dksX2_isDigit_0 3 rfl rfl)
theorem dX2_isDigit_6 : decode cX2_isDigit 6 = .ok (.iload_n 0, 1) := dk_26 (dk_at dksX2_isDigit_0 6 rfl rfl)
theorem dX2_isDigit_7 : decode cX2_isDigit 7 = .ok (.bipush 57, 2) := dk_16 57 (dk_at dksX2_isDigit_0 7 rfl rfl)
theorem dX2_isDigit_9 : decode cX2_isDigit 9 = .ok (.if_icmp .gt 7, 3) := dk_163 0 7 (dk_at dksX2_isDigit_0 9 rfl rfl)
theorem dX2_isDigit_12 : decode cX2_isDigit 12 = .ok (.iconst 1, 1) := dk_4 (dk_at dksX2_isDigit_0 12 rfl rfl)
theorem dX2_isDigit_13 : decode cX2_isDigit 13 = .ok (.goto 4, 3) := dk_167 0 4 (dk_at dksX2_isDigit_0 13 rfl rfl)
theorem dX2_isDigit_16 : decode cX2_isDigit 16 = .ok (.iconst 0, 1) := dk_3 (dk_at dksX2_isDigit_0 16 rfl rfl)
theorem dX2_isDigit_17 : decode cX2_isDigit 17 = .ok (.ireturn, 1) := dk_172 (dk_at dksX2_isDigit_0 17 rfl rfl)
abbrev cX2_whole : ByteArray := prog_15_method_15_code
def yX2_whole : MethodName := ⟨RX2, "whole", "()LSecretBuyers$Brief;"⟩
def dkwX2_whole_7 : List UInt8 := [182, 0, 135, 183, 0, 164, 182, 0, 142, 87, 42, 16, 59, 182, 0, 167, 167, 255, 83, 42, 180, 0, 39, 176]
abbrev dktX2_whole_7 : List UInt8 := dkwX2_whole_7 ++ []
def dkwX2_whole_6 : List UInt8 := [187, 0, 157, 89, 45, 42, 182, 0, 135, 183, 0, 159, 167, 0, 16, 187, 0, 162, 89, 21, 4, 42]
abbrev dktX2_whole_6 : List UInt8 := dkwX2_whole_6 ++ dktX2_whole_7
def dkwX2_whole_5 : List UInt8 := [182, 0, 148, 54, 4, 42, 18, 151, 182, 0, 153, 42, 180, 0, 39, 180, 0, 129, 28, 4, 160, 0, 18]
abbrev dktX2_whole_5 : List UInt8 := dkwX2_whole_5 ++ dktX2_whole_6
def dkwX2_whole_4 : List UInt8 := [182, 0, 135, 167, 0, 4, 1, 78, 28, 4, 160, 0, 7, 3, 167, 0, 11, 42, 3, 17, 39, 15]
abbrev dktX2_whole_4 : List UInt8 := dkwX2_whole_4 ++ dktX2_whole_5
def dkwX2_whole_3 : List UInt8 := [187, 0, 133, 89, 42, 182, 0, 135, 183, 0, 139, 182, 0, 142, 87, 167, 0, 86, 28, 4, 160, 0, 10, 42]
abbrev dktX2_whole_3 : List UInt8 := dkwX2_whole_3 ++ dktX2_whole_4
def dkwX2_whole_2 : List UInt8 := [154, 0, 10, 42, 182, 0, 126, 167, 0, 116, 28, 5, 160, 0, 28, 42, 180, 0, 39, 180, 0, 129]
abbrev dktX2_whole_2 : List UInt8 := dkwX2_whole_2 ++ dktX2_whole_3
def dkwX2_whole_1 : List UInt8 := [182, 0, 97, 191, 27, 16, 16, 160, 0, 9, 42, 8, 182, 0, 97, 191, 42, 182, 0, 43, 132, 1, 1, 28]
abbrev dktX2_whole_1 : List UInt8 := dkwX2_whole_1 ++ dktX2_whole_2
def dkwX2_whole_0 : List UInt8 := [3, 60, 42, 180, 0, 49, 153, 0, 172, 42, 18, 124, 182, 0, 89, 61, 28, 156, 0, 9, 42, 4]
abbrev dktX2_whole_0 : List UInt8 := dkwX2_whole_0 ++ dktX2_whole_1
theorem dksX2_whole_0 : cX2_whole.data.toList.drop 0 = dktX2_whole_0 := by decide +kernel
theorem dksX2_whole_1 : cX2_whole.data.toList.drop 22 = dktX2_whole_1 := dk_seg dksX2_whole_0 22 rfl rfl
theorem dksX2_whole_2 : cX2_whole.data.toList.drop 46 = dktX2_whole_2 := dk_seg dksX2_whole_1 24 rfl rfl
theorem dksX2_whole_3 : cX2_whole.data.toList.drop 68 = dktX2_whole_3 := dk_seg dksX2_whole_2 22 rfl rfl
theorem dksX2_whole_4 : cX2_whole.data.toList.drop 92 = dktX2_whole_4 := dk_seg dksX2_whole_3 24 rfl rfl
theorem dksX2_whole_5 : cX2_whole.data.toList.drop 114 = dktX2_whole_5 := dk_seg dksX2_whole_4 22 rfl rfl
theorem dksX2_whole_6 : cX2_whole.data.toList.drop 137 = dktX2_whole_6 := dk_seg dksX2_whole_5 23 rfl rfl
theorem dksX2_whole_7 : cX2_whole.data.toList.drop 159 = dktX2_whole_7 := dk_seg dksX2_whole_6 22 rfl rfl
theorem dX2_whole_0 : decode cX2_whole 0 = .ok (.iconst 0, 1) := dk_3 (dk_at dksX2_whole_0 0 rfl rfl)
theorem dX2_whole_1 : decode cX2_whole 1 = .ok (.istore_n 1, 1) := dk_60 (dk_at dksX2_whole_0 1 rfl rfl)
theorem dX2_whole_2 : decode cX2_whole 2 = .ok (.aload_n 0, 1) := dk_42 (dk_at dksX2_whole_0 2 rfl rfl)
theorem dX2_whole_3 : decode cX2_whole 3 = .ok (.getfield 49, 3) := dk_180 0 49 (dk_at dksX2_whole_0 3 rfl rfl)
theorem dX2_whole_6 : decode cX2_whole 6 = .ok (.ifCond .eq 172, 3) := dk_153 0 172 (dk_at dksX2_whole_0 6 rfl rfl)
theorem dX2_whole_9 : decode cX2_whole 9 = .ok (.aload_n 0, 1) := dk_42 (dk_at dksX2_whole_0 9 rfl rfl)
theorem dX2_whole_10 : decode cX2_whole 10 = .ok (.ldc 124, 2) := dk_18 124 (dk_at dksX2_whole_0 10 rfl rfl)
theorem dX2_whole_12 : decode cX2_whole 12 = .ok (.invokevirtual 89, 3) := dk_182 0 89 (dk_at dksX2_whole_0 12 rfl rfl)
theorem dX2_whole_15 : decode cX2_whole 15 = .ok (.istore_n 2, 1) := dk_61 (dk_at dksX2_whole_0 15 rfl rfl)
theorem dX2_whole_16 : decode cX2_whole 16 = .ok (.iload_n 2, 1) := dk_28 (dk_at dksX2_whole_0 16 rfl rfl)
theorem dX2_whole_17 : decode cX2_whole 17 = .ok (.ifCond .ge 9, 3) := dk_156 0 9 (dk_at dksX2_whole_0 17 rfl rfl)
theorem dX2_whole_20 : decode cX2_whole 20 = .ok (.aload_n 0, 1) := dk_42 (dk_at dksX2_whole_0 20 rfl rfl)
theorem dX2_whole_21 : decode cX2_whole 21 = .ok (.iconst 1, 1) := dk_4 (dk_at dksX2_whole_0 21 rfl rfl)
theorem dX2_whole_22 : decode cX2_whole 22 = .ok (.invokevirtual 97, 3) := dk_182 0 97 (dk_at dksX2_whole_1 0 rfl rfl)
theorem dX2_whole_25 : decode cX2_whole 25 = .ok (.athrow, 1) := dk_191 (dk_at dksX2_whole_1 3 rfl rfl)
theorem dX2_whole_26 : decode cX2_whole 26 = .ok (.iload_n 1, 1) := dk_27 (dk_at dksX2_whole_1 4 rfl rfl)
theorem dX2_whole_27 : decode cX2_whole 27 = .ok (.bipush 16, 2) := dk_16 16 (dk_at dksX2_whole_1 5 rfl rfl)
theorem dX2_whole_29 : decode cX2_whole 29 = .ok (.if_icmp .ne 9, 3) := dk_160 0 9 (dk_at dksX2_whole_1 7 rfl rfl)
theorem dX2_whole_32 : decode cX2_whole 32 = .ok (.aload_n 0, 1) := dk_42 (dk_at dksX2_whole_1 10 rfl rfl)
theorem dX2_whole_33 : decode cX2_whole 33 = .ok (.iconst 5, 1) := dk_8 (dk_at dksX2_whole_1 11 rfl rfl)
theorem dX2_whole_34 : decode cX2_whole 34 = .ok (.invokevirtual 97, 3) := dk_182 0 97 (dk_at dksX2_whole_1 12 rfl rfl)
theorem dX2_whole_37 : decode cX2_whole 37 = .ok (.athrow, 1) := dk_191 (dk_at dksX2_whole_1 15 rfl rfl)
theorem dX2_whole_38 : decode cX2_whole 38 = .ok (.aload_n 0, 1) := dk_42 (dk_at dksX2_whole_1 16 rfl rfl)
theorem dX2_whole_39 : decode cX2_whole 39 = .ok (.invokevirtual 43, 3) := dk_182 0 43 (dk_at dksX2_whole_1 17 rfl rfl)
theorem dX2_whole_42 : decode cX2_whole 42 = .ok (.iinc 1 1, 3) := dk_132 1 1 (dk_at dksX2_whole_1 20 rfl rfl)
theorem dX2_whole_45 : decode cX2_whole 45 = .ok (.iload_n 2, 1) := dk_28 (dk_at dksX2_whole_1 23 rfl rfl)
theorem dX2_whole_46 : decode cX2_whole 46 = .ok (.ifCond .ne 10, 3) := dk_154 0 10 (dk_at dksX2_whole_2 0 rfl rfl)
theorem dX2_whole_49 : decode cX2_whole 49 = .ok (.aload_n 0, 1) := dk_42 (dk_at dksX2_whole_2 3 rfl rfl)
theorem dX2_whole_50 : decode cX2_whole 50 = .ok (.invokevirtual 126, 3) := dk_182 0 126 (dk_at dksX2_whole_2 4 rfl rfl)
theorem dX2_whole_53 : decode cX2_whole 53 = .ok (.goto 116, 3) := dk_167 0 116 (dk_at dksX2_whole_2 7 rfl rfl)
theorem dX2_whole_56 : decode cX2_whole 56 = .ok (.iload_n 2, 1) := dk_28 (dk_at dksX2_whole_2 10 rfl rfl)
theorem dX2_whole_57 : decode cX2_whole 57 = .ok (.iconst 2, 1) := dk_5 (dk_at dksX2_whole_2 11 rfl rfl)
theorem dX2_whole_58 : decode cX2_whole 58 = .ok (.if_icmp .ne 28, 3) := dk_160 0 28 (dk_at dksX2_whole_2 12 rfl rfl)
theorem dX2_whole_61 : decode cX2_whole 61 = .ok (.aload_n 0, 1) := dk_42 (dk_at dksX2_whole_2 15 rfl rfl)
theorem dX2_whole_62 : decode cX2_whole 62 = .ok (.getfield 39, 3) := dk_180 0 39 (dk_at dksX2_whole_2 16 rfl rfl)
theorem dX2_whole_65 : decode cX2_whole 65 = .ok (.getfield 129, 3) := dk_180 0 129 (dk_at dksX2_whole_2 19 rfl rfl)
theorem dX2_whole_68 : decode cX2_whole 68 = .ok (.new 133, 3) := dk_187 0 133 (dk_at dksX2_whole_3 0 rfl rfl)
theorem dX2_whole_71 : decode cX2_whole 71 = .ok (.dup, 1) := dk_89 (dk_at dksX2_whole_3 3 rfl rfl)
theorem dX2_whole_72 : decode cX2_whole 72 = .ok (.aload_n 0, 1) := dk_42 (dk_at dksX2_whole_3 4 rfl rfl)
theorem dX2_whole_73 : decode cX2_whole 73 = .ok (.invokevirtual 135, 3) := dk_182 0 135 (dk_at dksX2_whole_3 5 rfl rfl)
theorem dX2_whole_76 : decode cX2_whole 76 = .ok (.invokespecial 139, 3) := dk_183 0 139 (dk_at dksX2_whole_3 8 rfl rfl)
theorem dX2_whole_79 : decode cX2_whole 79 = .ok (.invokevirtual 142, 3) := dk_182 0 142 (dk_at dksX2_whole_3 11 rfl rfl)
theorem dX2_whole_82 : decode cX2_whole 82 = .ok (.pop, 1) := dk_87 (dk_at dksX2_whole_3 14 rfl rfl)
theorem dX2_whole_83 : decode cX2_whole 83 = .ok (.goto 86, 3) := dk_167 0 86 (dk_at dksX2_whole_3 15 rfl rfl)
theorem dX2_whole_86 : decode cX2_whole 86 = .ok (.iload_n 2, 1) := dk_28 (dk_at dksX2_whole_3 18 rfl rfl)
theorem dX2_whole_87 : decode cX2_whole 87 = .ok (.iconst 1, 1) := dk_4 (dk_at dksX2_whole_3 19 rfl rfl)
theorem dX2_whole_88 : decode cX2_whole 88 = .ok (.if_icmp .ne 10, 3) := dk_160 0 10 (dk_at dksX2_whole_3 20 rfl rfl)
theorem dX2_whole_91 : decode cX2_whole 91 = .ok (.aload_n 0, 1) := dk_42 (dk_at dksX2_whole_3 23 rfl rfl)
theorem dX2_whole_92 : decode cX2_whole 92 = .ok (.invokevirtual 135, 3) := dk_182 0 135 (dk_at dksX2_whole_4 0 rfl rfl)
theorem dX2_whole_95 : decode cX2_whole 95 = .ok (.goto 4, 3) := dk_167 0 4 (dk_at dksX2_whole_4 3 rfl rfl)
theorem dX2_whole_98 : decode cX2_whole 98 = .ok (.aconst_null, 1) := dk_1 (dk_at dksX2_whole_4 6 rfl rfl)
theorem dX2_whole_99 : decode cX2_whole 99 = .ok (.astore_n 3, 1) := dk_78 (dk_at dksX2_whole_4 7 rfl rfl)
theorem dX2_whole_100 : decode cX2_whole 100 = .ok (.iload_n 2, 1) := dk_28 (dk_at dksX2_whole_4 8 rfl rfl)
theorem dX2_whole_101 : decode cX2_whole 101 = .ok (.iconst 1, 1) := dk_4 (dk_at dksX2_whole_4 9 rfl rfl)
theorem dX2_whole_102 : decode cX2_whole 102 = .ok (.if_icmp .ne 7, 3) := dk_160 0 7 (dk_at dksX2_whole_4 10 rfl rfl)
theorem dX2_whole_105 : decode cX2_whole 105 = .ok (.iconst 0, 1) := dk_3 (dk_at dksX2_whole_4 13 rfl rfl)
theorem dX2_whole_106 : decode cX2_whole 106 = .ok (.goto 11, 3) := dk_167 0 11 (dk_at dksX2_whole_4 14 rfl rfl)
theorem dX2_whole_109 : decode cX2_whole 109 = .ok (.aload_n 0, 1) := dk_42 (dk_at dksX2_whole_4 17 rfl rfl)
theorem dX2_whole_110 : decode cX2_whole 110 = .ok (.iconst 0, 1) := dk_3 (dk_at dksX2_whole_4 18 rfl rfl)
theorem dX2_whole_111 : decode cX2_whole 111 = .ok (.sipush 9999, 3) := dk_17 39 15 (dk_at dksX2_whole_4 19 rfl rfl)
theorem dX2_whole_114 : decode cX2_whole 114 = .ok (.invokevirtual 148, 3) := dk_182 0 148 (dk_at dksX2_whole_5 0 rfl rfl)
theorem dX2_whole_117 : decode cX2_whole 117 = .ok (.istore 4, 2) := dk_54 4 (dk_at dksX2_whole_5 3 rfl rfl)
theorem dX2_whole_119 : decode cX2_whole 119 = .ok (.aload_n 0, 1) := dk_42 (dk_at dksX2_whole_5 5 rfl rfl)
theorem dX2_whole_120 : decode cX2_whole 120 = .ok (.ldc 151, 2) := dk_18 151 (dk_at dksX2_whole_5 6 rfl rfl)
theorem dX2_whole_122 : decode cX2_whole 122 = .ok (.invokevirtual 153, 3) := dk_182 0 153 (dk_at dksX2_whole_5 8 rfl rfl)
theorem dX2_whole_125 : decode cX2_whole 125 = .ok (.aload_n 0, 1) := dk_42 (dk_at dksX2_whole_5 11 rfl rfl)
theorem dX2_whole_126 : decode cX2_whole 126 = .ok (.getfield 39, 3) := dk_180 0 39 (dk_at dksX2_whole_5 12 rfl rfl)
theorem dX2_whole_129 : decode cX2_whole 129 = .ok (.getfield 129, 3) := dk_180 0 129 (dk_at dksX2_whole_5 15 rfl rfl)
theorem dX2_whole_132 : decode cX2_whole 132 = .ok (.iload_n 2, 1) := dk_28 (dk_at dksX2_whole_5 18 rfl rfl)
theorem dX2_whole_133 : decode cX2_whole 133 = .ok (.iconst 1, 1) := dk_4 (dk_at dksX2_whole_5 19 rfl rfl)
theorem dX2_whole_134 : decode cX2_whole 134 = .ok (.if_icmp .ne 18, 3) := dk_160 0 18 (dk_at dksX2_whole_5 20 rfl rfl)
theorem dX2_whole_137 : decode cX2_whole 137 = .ok (.new 157, 3) := dk_187 0 157 (dk_at dksX2_whole_6 0 rfl rfl)
theorem dX2_whole_140 : decode cX2_whole 140 = .ok (.dup, 1) := dk_89 (dk_at dksX2_whole_6 3 rfl rfl)
theorem dX2_whole_141 : decode cX2_whole 141 = .ok (.aload_n 3, 1) := dk_45 (dk_at dksX2_whole_6 4 rfl rfl)
theorem dX2_whole_142 : decode cX2_whole 142 = .ok (.aload_n 0, 1) := dk_42 (dk_at dksX2_whole_6 5 rfl rfl)
theorem dX2_whole_143 : decode cX2_whole 143 = .ok (.invokevirtual 135, 3) := dk_182 0 135 (dk_at dksX2_whole_6 6 rfl rfl)
theorem dX2_whole_146 : decode cX2_whole 146 = .ok (.invokespecial 159, 3) := dk_183 0 159 (dk_at dksX2_whole_6 9 rfl rfl)
theorem dX2_whole_149 : decode cX2_whole 149 = .ok (.goto 16, 3) := dk_167 0 16 (dk_at dksX2_whole_6 12 rfl rfl)
theorem dX2_whole_152 : decode cX2_whole 152 = .ok (.new 162, 3) := dk_187 0 162 (dk_at dksX2_whole_6 15 rfl rfl)
theorem dX2_whole_155 : decode cX2_whole 155 = .ok (.dup, 1) := dk_89 (dk_at dksX2_whole_6 18 rfl rfl)
theorem dX2_whole_156 : decode cX2_whole 156 = .ok (.iload 4, 2) := dk_21 4 (dk_at dksX2_whole_6 19 rfl rfl)
theorem dX2_whole_158 : decode cX2_whole 158 = .ok (.aload_n 0, 1) := dk_42 (dk_at dksX2_whole_6 21 rfl rfl)
theorem dX2_whole_159 : decode cX2_whole 159 = .ok (.invokevirtual 135, 3) := dk_182 0 135 (dk_at dksX2_whole_7 0 rfl rfl)
theorem dX2_whole_162 : decode cX2_whole 162 = .ok (.invokespecial 164, 3) := dk_183 0 164 (dk_at dksX2_whole_7 3 rfl rfl)
theorem dX2_whole_165 : decode cX2_whole 165 = .ok (.invokevirtual 142, 3) := dk_182 0 142 (dk_at dksX2_whole_7 6 rfl rfl)
theorem dX2_whole_168 : decode cX2_whole 168 = .ok (.pop, 1) := dk_87 (dk_at dksX2_whole_7 9 rfl rfl)
theorem dX2_whole_169 : decode cX2_whole 169 = .ok (.aload_n 0, 1) := dk_42 (dk_at dksX2_whole_7 10 rfl rfl)
theorem dX2_whole_170 : decode cX2_whole 170 = .ok (.bipush 59, 2) := dk_16 59 (dk_at dksX2_whole_7 11 rfl rfl)
theorem dX2_whole_172 : decode cX2_whole 172 = .ok (.invokevirtual 167, 3) := dk_182 0 167 (dk_at dksX2_whole_7 13 rfl rfl)
theorem dX2_whole_175 : decode cX2_whole 175 = .ok (.goto (-173), 3) := dk_167 255 83 (dk_at dksX2_whole_7 16 rfl rfl)
theorem dX2_whole_178 : decode cX2_whole 178 = .ok (.aload_n 0, 1) := dk_42 (dk_at dksX2_whole_7 19 rfl rfl)
theorem dX2_whole_179 : decode cX2_whole 179 = .ok (.getfield 39, 3) := dk_180 0 39 (dk_at dksX2_whole_7 20 rfl rfl)
theorem dX2_whole_182 : decode cX2_whole 182 = .ok (.areturn, 1) := dk_176 (dk_at dksX2_whole_7 23 rfl rfl)
abbrev cX2_which : ByteArray := prog_15_method_8_code
def yX2_which : MethodName := ⟨RX2, "which", "(Ljava/lang/String;)I"⟩
def dkwX2_which_5 : List UInt8 := [96, 62, 132, 2, 1, 167, 255, 140, 2, 172]
abbrev dktX2_which_5 : List UInt8 := dkwX2_which_5 ++ []
def dkwX2_which_4 : List UInt8 := [167, 0, 4, 3, 54, 5, 132, 6, 1, 167, 255, 211, 21, 5, 153, 0, 5, 28, 172, 29, 21, 4, 4, 96]
abbrev dktX2_which_4 : List UInt8 := dkwX2_which_4 ++ dktX2_which_5
def dkwX2_which_3 : List UInt8 := [180, 0, 21, 42, 180, 0, 46, 21, 6, 96, 51, 43, 29, 21, 6, 96, 182, 0, 85, 160, 0, 7, 4]
abbrev dktX2_which_3 : List UInt8 := dkwX2_which_3 ++ dktX2_which_4
def dkwX2_which_2 : List UInt8 := [167, 0, 4, 3, 54, 5, 3, 54, 6, 21, 5, 153, 0, 46, 21, 6, 21, 4, 162, 0, 39, 42]
abbrev dktX2_which_2 : List UInt8 := dkwX2_which_2 ++ dktX2_which_3
def dkwX2_which_1 : List UInt8 := [182, 0, 82, 29, 100, 54, 4, 42, 180, 0, 28, 42, 180, 0, 46, 100, 21, 4, 160, 0, 7, 4]
abbrev dktX2_which_1 : List UInt8 := dkwX2_which_1 ++ dktX2_which_2
def dkwX2_which_0 : List UInt8 := [3, 61, 3, 62, 29, 43, 182, 0, 78, 162, 0, 114, 42, 180, 0, 49, 4, 160, 0, 106, 43, 16, 32, 29]
abbrev dktX2_which_0 : List UInt8 := dkwX2_which_0 ++ dktX2_which_1
theorem dksX2_which_0 : cX2_which.data.toList.drop 0 = dktX2_which_0 := by decide +kernel
theorem dksX2_which_1 : cX2_which.data.toList.drop 24 = dktX2_which_1 := dk_seg dksX2_which_0 24 rfl rfl
theorem dksX2_which_2 : cX2_which.data.toList.drop 46 = dktX2_which_2 := dk_seg dksX2_which_1 22 rfl rfl
theorem dksX2_which_3 : cX2_which.data.toList.drop 68 = dktX2_which_3 := dk_seg dksX2_which_2 22 rfl rfl
theorem dksX2_which_4 : cX2_which.data.toList.drop 91 = dktX2_which_4 := dk_seg dksX2_which_3 23 rfl rfl
theorem dksX2_which_5 : cX2_which.data.toList.drop 115 = dktX2_which_5 := dk_seg dksX2_which_4 24 rfl rfl
theorem dX2_which_0 : decode cX2_which 0 = .ok (.iconst 0, 1) := dk_3 (dk_at dksX2_which_0 0 rfl rfl)
theorem dX2_which_1 : decode cX2_which 1 = .ok (.istore_n 2, 1) := dk_61 (dk_at dksX2_which_0 1 rfl rfl)
theorem dX2_which_2 : decode cX2_which 2 = .ok (.iconst 0, 1) := dk_3 (dk_at dksX2_which_0 2 rfl rfl)
theorem dX2_which_3 : decode cX2_which 3 = .ok (.istore_n 3, 1) := dk_62 (dk_at dksX2_which_0 3 rfl rfl)
theorem dX2_which_4 : decode cX2_which 4 = .ok (.iload_n 3, 1) := dk_29 (dk_at dksX2_which_0 4 rfl rfl)
theorem dX2_which_5 : decode cX2_which 5 = .ok (.aload_n 1, 1) := dk_43 (dk_at dksX2_which_0 5 rfl rfl)
theorem dX2_which_6 : decode cX2_which 6 = .ok (.invokevirtual 78, 3) := dk_182 0 78 (dk_at dksX2_which_0 6 rfl rfl)
theorem dX2_which_9 : decode cX2_which 9 = .ok (.if_icmp .ge 114, 3) := dk_162 0 114 (dk_at dksX2_which_0 9 rfl rfl)
theorem dX2_which_12 : decode cX2_which 12 = .ok (.aload_n 0, 1) := dk_42 (dk_at dksX2_which_0 12 rfl rfl)
theorem dX2_which_13 : decode cX2_which 13 = .ok (.getfield 49, 3) := dk_180 0 49 (dk_at dksX2_which_0 13 rfl rfl)
theorem dX2_which_16 : decode cX2_which 16 = .ok (.iconst 1, 1) := dk_4 (dk_at dksX2_which_0 16 rfl rfl)
theorem dX2_which_17 : decode cX2_which 17 = .ok (.if_icmp .ne 106, 3) := dk_160 0 106 (dk_at dksX2_which_0 17 rfl rfl)
theorem dX2_which_20 : decode cX2_which 20 = .ok (.aload_n 1, 1) := dk_43 (dk_at dksX2_which_0 20 rfl rfl)
theorem dX2_which_21 : decode cX2_which 21 = .ok (.bipush 32, 2) := dk_16 32 (dk_at dksX2_which_0 21 rfl rfl)
theorem dX2_which_23 : decode cX2_which 23 = .ok (.iload_n 3, 1) := dk_29 (dk_at dksX2_which_0 23 rfl rfl)
theorem dX2_which_24 : decode cX2_which 24 = .ok (.invokevirtual 82, 3) := dk_182 0 82 (dk_at dksX2_which_1 0 rfl rfl)
theorem dX2_which_27 : decode cX2_which 27 = .ok (.iload_n 3, 1) := dk_29 (dk_at dksX2_which_1 3 rfl rfl)
theorem dX2_which_28 : decode cX2_which 28 = .ok (.isub, 1) := dk_100 (dk_at dksX2_which_1 4 rfl rfl)
theorem dX2_which_29 : decode cX2_which 29 = .ok (.istore 4, 2) := dk_54 4 (dk_at dksX2_which_1 5 rfl rfl)
theorem dX2_which_31 : decode cX2_which 31 = .ok (.aload_n 0, 1) := dk_42 (dk_at dksX2_which_1 7 rfl rfl)
theorem dX2_which_32 : decode cX2_which 32 = .ok (.getfield 28, 3) := dk_180 0 28 (dk_at dksX2_which_1 8 rfl rfl)
theorem dX2_which_35 : decode cX2_which 35 = .ok (.aload_n 0, 1) := dk_42 (dk_at dksX2_which_1 11 rfl rfl)
theorem dX2_which_36 : decode cX2_which 36 = .ok (.getfield 46, 3) := dk_180 0 46 (dk_at dksX2_which_1 12 rfl rfl)
theorem dX2_which_39 : decode cX2_which 39 = .ok (.isub, 1) := dk_100 (dk_at dksX2_which_1 15 rfl rfl)
theorem dX2_which_40 : decode cX2_which 40 = .ok (.iload 4, 2) := dk_21 4 (dk_at dksX2_which_1 16 rfl rfl)
theorem dX2_which_42 : decode cX2_which 42 = .ok (.if_icmp .ne 7, 3) := dk_160 0 7 (dk_at dksX2_which_1 18 rfl rfl)
theorem dX2_which_45 : decode cX2_which 45 = .ok (.iconst 1, 1) := dk_4 (dk_at dksX2_which_1 21 rfl rfl)
theorem dX2_which_46 : decode cX2_which 46 = .ok (.goto 4, 3) := dk_167 0 4 (dk_at dksX2_which_2 0 rfl rfl)
theorem dX2_which_49 : decode cX2_which 49 = .ok (.iconst 0, 1) := dk_3 (dk_at dksX2_which_2 3 rfl rfl)
theorem dX2_which_50 : decode cX2_which 50 = .ok (.istore 5, 2) := dk_54 5 (dk_at dksX2_which_2 4 rfl rfl)
theorem dX2_which_52 : decode cX2_which 52 = .ok (.iconst 0, 1) := dk_3 (dk_at dksX2_which_2 6 rfl rfl)
theorem dX2_which_53 : decode cX2_which 53 = .ok (.istore 6, 2) := dk_54 6 (dk_at dksX2_which_2 7 rfl rfl)
theorem dX2_which_55 : decode cX2_which 55 = .ok (.iload 5, 2) := dk_21 5 (dk_at dksX2_which_2 9 rfl rfl)
theorem dX2_which_57 : decode cX2_which 57 = .ok (.ifCond .eq 46, 3) := dk_153 0 46 (dk_at dksX2_which_2 11 rfl rfl)
theorem dX2_which_60 : decode cX2_which 60 = .ok (.iload 6, 2) := dk_21 6 (dk_at dksX2_which_2 14 rfl rfl)
theorem dX2_which_62 : decode cX2_which 62 = .ok (.iload 4, 2) := dk_21 4 (dk_at dksX2_which_2 16 rfl rfl)
theorem dX2_which_64 : decode cX2_which 64 = .ok (.if_icmp .ge 39, 3) := dk_162 0 39 (dk_at dksX2_which_2 18 rfl rfl)
theorem dX2_which_67 : decode cX2_which 67 = .ok (.aload_n 0, 1) := dk_42 (dk_at dksX2_which_2 21 rfl rfl)
theorem dX2_which_68 : decode cX2_which 68 = .ok (.getfield 21, 3) := dk_180 0 21 (dk_at dksX2_which_3 0 rfl rfl)
theorem dX2_which_71 : decode cX2_which 71 = .ok (.aload_n 0, 1) := dk_42 (dk_at dksX2_which_3 3 rfl rfl)
theorem dX2_which_72 : decode cX2_which 72 = .ok (.getfield 46, 3) := dk_180 0 46 (dk_at dksX2_which_3 4 rfl rfl)
theorem dX2_which_75 : decode cX2_which 75 = .ok (.iload 6, 2) := dk_21 6 (dk_at dksX2_which_3 7 rfl rfl)
theorem dX2_which_77 : decode cX2_which 77 = .ok (.iadd, 1) := dk_96 (dk_at dksX2_which_3 9 rfl rfl)
theorem dX2_which_78 : decode cX2_which 78 = .ok (.baload, 1) := dk_51 (dk_at dksX2_which_3 10 rfl rfl)
theorem dX2_which_79 : decode cX2_which 79 = .ok (.aload_n 1, 1) := dk_43 (dk_at dksX2_which_3 11 rfl rfl)
theorem dX2_which_80 : decode cX2_which 80 = .ok (.iload_n 3, 1) := dk_29 (dk_at dksX2_which_3 12 rfl rfl)
theorem dX2_which_81 : decode cX2_which 81 = .ok (.iload 6, 2) := dk_21 6 (dk_at dksX2_which_3 13 rfl rfl)
theorem dX2_which_83 : decode cX2_which 83 = .ok (.iadd, 1) := dk_96 (dk_at dksX2_which_3 15 rfl rfl)
theorem dX2_which_84 : decode cX2_which 84 = .ok (.invokevirtual 85, 3) := dk_182 0 85 (dk_at dksX2_which_3 16 rfl rfl)
theorem dX2_which_87 : decode cX2_which 87 = .ok (.if_icmp .ne 7, 3) := dk_160 0 7 (dk_at dksX2_which_3 19 rfl rfl)
theorem dX2_which_90 : decode cX2_which 90 = .ok (.iconst 1, 1) := dk_4 (dk_at dksX2_which_3 22 rfl rfl)
theorem dX2_which_91 : decode cX2_which 91 = .ok (.goto 4, 3) := dk_167 0 4 (dk_at dksX2_which_4 0 rfl rfl)
theorem dX2_which_94 : decode cX2_which 94 = .ok (.iconst 0, 1) := dk_3 (dk_at dksX2_which_4 3 rfl rfl)
theorem dX2_which_95 : decode cX2_which 95 = .ok (.istore 5, 2) := dk_54 5 (dk_at dksX2_which_4 4 rfl rfl)
theorem dX2_which_97 : decode cX2_which 97 = .ok (.iinc 6 1, 3) := dk_132 6 1 (dk_at dksX2_which_4 6 rfl rfl)
theorem dX2_which_100 : decode cX2_which 100 = .ok (.goto (-45), 3) := dk_167 255 211 (dk_at dksX2_which_4 9 rfl rfl)
theorem dX2_which_103 : decode cX2_which 103 = .ok (.iload 5, 2) := dk_21 5 (dk_at dksX2_which_4 12 rfl rfl)
theorem dX2_which_105 : decode cX2_which 105 = .ok (.ifCond .eq 5, 3) := dk_153 0 5 (dk_at dksX2_which_4 14 rfl rfl)
theorem dX2_which_108 : decode cX2_which 108 = .ok (.iload_n 2, 1) := dk_28 (dk_at dksX2_which_4 17 rfl rfl)
theorem dX2_which_109 : decode cX2_which 109 = .ok (.ireturn, 1) := dk_172 (dk_at dksX2_which_4 18 rfl rfl)
theorem dX2_which_110 : decode cX2_which 110 = .ok (.iload_n 3, 1) := dk_29 (dk_at dksX2_which_4 19 rfl rfl)
theorem dX2_which_111 : decode cX2_which 111 = .ok (.iload 4, 2) := dk_21 4 (dk_at dksX2_which_4 20 rfl rfl)
theorem dX2_which_113 : decode cX2_which 113 = .ok (.iconst 1, 1) := dk_4 (dk_at dksX2_which_4 22 rfl rfl)
theorem dX2_which_114 : decode cX2_which 114 = .ok (.iadd, 1) := dk_96 (dk_at dksX2_which_4 23 rfl rfl)
theorem dX2_which_115 : decode cX2_which 115 = .ok (.iadd, 1) := dk_96 (dk_at dksX2_which_5 0 rfl rfl)
theorem dX2_which_116 : decode cX2_which 116 = .ok (.istore_n 3, 1) := dk_62 (dk_at dksX2_which_5 1 rfl rfl)
theorem dX2_which_117 : decode cX2_which 117 = .ok (.iinc 2 1, 3) := dk_132 2 1 (dk_at dksX2_which_5 2 rfl rfl)
theorem dX2_which_120 : decode cX2_which 120 = .ok (.goto (-116), 3) := dk_167 255 140 (dk_at dksX2_which_5 5 rfl rfl)
theorem dX2_which_123 : decode cX2_which 123 = .ok (.iconst (-1), 1) := dk_2 (dk_at dksX2_which_5 8 rfl rfl)
theorem dX2_which_124 : decode cX2_which 124 = .ok (.ireturn, 1) := dk_172 (dk_at dksX2_which_5 9 rfl rfl)
abbrev cX2_wrong : ByteArray := prog_15_method_7_code
def yX2_wrong : MethodName := ⟨RX2, "wrong", "(I)LSecretBuyers$Wrong;"⟩
def dkwX2_wrong_0 : List UInt8 := [187, 0, 73, 89, 27, 42, 180, 0, 46, 183, 0, 75, 176]
abbrev dktX2_wrong_0 : List UInt8 := dkwX2_wrong_0 ++ []
theorem dksX2_wrong_0 : cX2_wrong.data.toList.drop 0 = dktX2_wrong_0 := by decide +kernel
theorem dX2_wrong_0 : decode cX2_wrong 0 = .ok (.new 73, 3) := dk_187 0 73 (dk_at dksX2_wrong_0 0 rfl rfl)
theorem dX2_wrong_3 : decode cX2_wrong 3 = .ok (.dup, 1) := dk_89 (dk_at dksX2_wrong_0 3 rfl rfl)
theorem dX2_wrong_4 : decode cX2_wrong 4 = .ok (.iload_n 1, 1) := dk_27 (dk_at dksX2_wrong_0 4 rfl rfl)
theorem dX2_wrong_5 : decode cX2_wrong 5 = .ok (.aload_n 0, 1) := dk_42 (dk_at dksX2_wrong_0 5 rfl rfl)
theorem dX2_wrong_6 : decode cX2_wrong 6 = .ok (.getfield 46, 3) := dk_180 0 46 (dk_at dksX2_wrong_0 6 rfl rfl)
theorem dX2_wrong_9 : decode cX2_wrong 9 = .ok (.invokespecial 75, 3) := dk_183 0 75 (dk_at dksX2_wrong_0 9 rfl rfl)
theorem dX2_wrong_12 : decode cX2_wrong 12 = .ok (.areturn, 1) := dk_176 (dk_at dksX2_wrong_0 12 rfl rfl)
abbrev cX2_let : ByteArray := prog_15_method_16_code
def yX2_let : MethodName := ⟨RX2, "let", "()V"⟩
def dkwX2_let_3 : List UInt8 := [182, 0, 142, 87, 42, 180, 0, 39, 180, 0, 181, 44, 182, 0, 142, 87, 177]
abbrev dktX2_let_3 : List UInt8 := dkwX2_let_3 ++ []
def dkwX2_let_2 : List UInt8 := [182, 0, 43, 42, 16, 61, 182, 0, 167, 42, 182, 0, 135, 77, 42, 180, 0, 39, 180, 0, 173, 43]
abbrev dktX2_let_2 : List UInt8 := dkwX2_let_2 ++ dktX2_let_3
def dkwX2_let_1 : List UInt8 := [191, 42, 180, 0, 39, 180, 0, 173, 182, 0, 179, 16, 8, 160, 0, 9, 42, 8, 182, 0, 97, 191, 42]
abbrev dktX2_let_1 : List UInt8 := dkwX2_let_1 ++ dktX2_let_2
def dkwX2_let_0 : List UInt8 := [42, 182, 0, 170, 76, 42, 180, 0, 39, 180, 0, 173, 43, 182, 0, 176, 153, 0, 9, 42, 6, 182, 0, 97]
abbrev dktX2_let_0 : List UInt8 := dkwX2_let_0 ++ dktX2_let_1
theorem dksX2_let_0 : cX2_let.data.toList.drop 0 = dktX2_let_0 := by decide +kernel
theorem dksX2_let_1 : cX2_let.data.toList.drop 24 = dktX2_let_1 := dk_seg dksX2_let_0 24 rfl rfl
theorem dksX2_let_2 : cX2_let.data.toList.drop 47 = dktX2_let_2 := dk_seg dksX2_let_1 23 rfl rfl
theorem dksX2_let_3 : cX2_let.data.toList.drop 69 = dktX2_let_3 := dk_seg dksX2_let_2 22 rfl rfl
theorem dX2_let_0 : decode cX2_let 0 = .ok (.aload_n 0, 1) := dk_42 (dk_at dksX2_let_0 0 rfl rfl)
theorem dX2_let_1 : decode cX2_let 1 = .ok (.invokevirtual 170, 3) := dk_182 0 170 (dk_at dksX2_let_0 1 rfl rfl)
theorem dX2_let_4 : decode cX2_let 4 = .ok (.astore_n 1, 1) := dk_76 (dk_at dksX2_let_0 4 rfl rfl)
theorem dX2_let_5 : decode cX2_let 5 = .ok (.aload_n 0, 1) := dk_42 (dk_at dksX2_let_0 5 rfl rfl)
theorem dX2_let_6 : decode cX2_let 6 = .ok (.getfield 39, 3) := dk_180 0 39 (dk_at dksX2_let_0 6 rfl rfl)
theorem dX2_let_9 : decode cX2_let 9 = .ok (.getfield 173, 3) := dk_180 0 173 (dk_at dksX2_let_0 9 rfl rfl)
theorem dX2_let_12 : decode cX2_let 12 = .ok (.aload_n 1, 1) := dk_43 (dk_at dksX2_let_0 12 rfl rfl)
theorem dX2_let_13 : decode cX2_let 13 = .ok (.invokevirtual 176, 3) := dk_182 0 176 (dk_at dksX2_let_0 13 rfl rfl)
theorem dX2_let_16 : decode cX2_let 16 = .ok (.ifCond .eq 9, 3) := dk_153 0 9 (dk_at dksX2_let_0 16 rfl rfl)
theorem dX2_let_19 : decode cX2_let 19 = .ok (.aload_n 0, 1) := dk_42 (dk_at dksX2_let_0 19 rfl rfl)
theorem dX2_let_20 : decode cX2_let 20 = .ok (.iconst 3, 1) := dk_6 (dk_at dksX2_let_0 20 rfl rfl)
theorem dX2_let_21 : decode cX2_let 21 = .ok (.invokevirtual 97, 3) := dk_182 0 97 (dk_at dksX2_let_0 21 rfl rfl)
theorem dX2_let_24 : decode cX2_let 24 = .ok (.athrow, 1) := dk_191 (dk_at dksX2_let_1 0 rfl rfl)
theorem dX2_let_25 : decode cX2_let 25 = .ok (.aload_n 0, 1) := dk_42 (dk_at dksX2_let_1 1 rfl rfl)
theorem dX2_let_26 : decode cX2_let 26 = .ok (.getfield 39, 3) := dk_180 0 39 (dk_at dksX2_let_1 2 rfl rfl)
theorem dX2_let_29 : decode cX2_let 29 = .ok (.getfield 173, 3) := dk_180 0 173 (dk_at dksX2_let_1 5 rfl rfl)
theorem dX2_let_32 : decode cX2_let 32 = .ok (.invokevirtual 179, 3) := dk_182 0 179 (dk_at dksX2_let_1 8 rfl rfl)
theorem dX2_let_35 : decode cX2_let 35 = .ok (.bipush 8, 2) := dk_16 8 (dk_at dksX2_let_1 11 rfl rfl)
theorem dX2_let_37 : decode cX2_let 37 = .ok (.if_icmp .ne 9, 3) := dk_160 0 9 (dk_at dksX2_let_1 13 rfl rfl)
theorem dX2_let_40 : decode cX2_let 40 = .ok (.aload_n 0, 1) := dk_42 (dk_at dksX2_let_1 16 rfl rfl)
theorem dX2_let_41 : decode cX2_let 41 = .ok (.iconst 5, 1) := dk_8 (dk_at dksX2_let_1 17 rfl rfl)
theorem dX2_let_42 : decode cX2_let 42 = .ok (.invokevirtual 97, 3) := dk_182 0 97 (dk_at dksX2_let_1 18 rfl rfl)
theorem dX2_let_45 : decode cX2_let 45 = .ok (.athrow, 1) := dk_191 (dk_at dksX2_let_1 21 rfl rfl)
theorem dX2_let_46 : decode cX2_let 46 = .ok (.aload_n 0, 1) := dk_42 (dk_at dksX2_let_1 22 rfl rfl)
theorem dX2_let_47 : decode cX2_let 47 = .ok (.invokevirtual 43, 3) := dk_182 0 43 (dk_at dksX2_let_2 0 rfl rfl)
theorem dX2_let_50 : decode cX2_let 50 = .ok (.aload_n 0, 1) := dk_42 (dk_at dksX2_let_2 3 rfl rfl)
theorem dX2_let_51 : decode cX2_let 51 = .ok (.bipush 61, 2) := dk_16 61 (dk_at dksX2_let_2 4 rfl rfl)
theorem dX2_let_53 : decode cX2_let 53 = .ok (.invokevirtual 167, 3) := dk_182 0 167 (dk_at dksX2_let_2 6 rfl rfl)
theorem dX2_let_56 : decode cX2_let 56 = .ok (.aload_n 0, 1) := dk_42 (dk_at dksX2_let_2 9 rfl rfl)
theorem dX2_let_57 : decode cX2_let 57 = .ok (.invokevirtual 135, 3) := dk_182 0 135 (dk_at dksX2_let_2 10 rfl rfl)
theorem dX2_let_60 : decode cX2_let 60 = .ok (.astore_n 2, 1) := dk_77 (dk_at dksX2_let_2 13 rfl rfl)
theorem dX2_let_61 : decode cX2_let 61 = .ok (.aload_n 0, 1) := dk_42 (dk_at dksX2_let_2 14 rfl rfl)
theorem dX2_let_62 : decode cX2_let 62 = .ok (.getfield 39, 3) := dk_180 0 39 (dk_at dksX2_let_2 15 rfl rfl)
theorem dX2_let_65 : decode cX2_let 65 = .ok (.getfield 173, 3) := dk_180 0 173 (dk_at dksX2_let_2 18 rfl rfl)
theorem dX2_let_68 : decode cX2_let 68 = .ok (.aload_n 1, 1) := dk_43 (dk_at dksX2_let_2 21 rfl rfl)
theorem dX2_let_69 : decode cX2_let 69 = .ok (.invokevirtual 142, 3) := dk_182 0 142 (dk_at dksX2_let_3 0 rfl rfl)
theorem dX2_let_72 : decode cX2_let 72 = .ok (.pop, 1) := dk_87 (dk_at dksX2_let_3 3 rfl rfl)
theorem dX2_let_73 : decode cX2_let 73 = .ok (.aload_n 0, 1) := dk_42 (dk_at dksX2_let_3 4 rfl rfl)
theorem dX2_let_74 : decode cX2_let 74 = .ok (.getfield 39, 3) := dk_180 0 39 (dk_at dksX2_let_3 5 rfl rfl)
theorem dX2_let_77 : decode cX2_let 77 = .ok (.getfield 181, 3) := dk_180 0 181 (dk_at dksX2_let_3 8 rfl rfl)
theorem dX2_let_80 : decode cX2_let 80 = .ok (.aload_n 2, 1) := dk_44 (dk_at dksX2_let_3 11 rfl rfl)
theorem dX2_let_81 : decode cX2_let 81 = .ok (.invokevirtual 142, 3) := dk_182 0 142 (dk_at dksX2_let_3 12 rfl rfl)
theorem dX2_let_84 : decode cX2_let 84 = .ok (.pop, 1) := dk_87 (dk_at dksX2_let_3 15 rfl rfl)
theorem dX2_let_85 : decode cX2_let 85 = .ok (.return_, 1) := dk_177 (dk_at dksX2_let_3 16 rfl rfl)
abbrev cX2_name : ByteArray := prog_15_method_14_code
def yX2_name : MethodName := ⟨RX2, "name", "()Ljava/lang/String;"⟩
def dkwX2_name_3 : List UInt8 := [167, 255, 233, 43, 182, 0, 120, 176]
abbrev dktX2_name_3 : List UInt8 := dkwX2_name_3 ++ []
def dkwX2_name_2 : List UInt8 := [28, 42, 180, 0, 28, 162, 0, 21, 43, 42, 180, 0, 21, 28, 51, 146, 182, 0, 116, 87, 132, 2, 1]
abbrev dktX2_name_2 : List UInt8 := dkwX2_name_2 ++ dktX2_name_3
def dkwX2_name_1 : List UInt8 := [155, 0, 9, 42, 4, 182, 0, 97, 191, 187, 0, 111, 89, 16, 8, 183, 0, 113, 76, 42, 180, 0, 46, 61]
abbrev dktX2_name_1 : List UInt8 := dkwX2_name_1 ++ dktX2_name_2
def dkwX2_name_0 : List UInt8 := [42, 180, 0, 49, 4, 160, 0, 21, 42, 18, 105, 182, 0, 89, 156, 0, 12, 42, 18, 109, 182, 0, 89]
abbrev dktX2_name_0 : List UInt8 := dkwX2_name_0 ++ dktX2_name_1
theorem dksX2_name_0 : cX2_name.data.toList.drop 0 = dktX2_name_0 := by decide +kernel
theorem dksX2_name_1 : cX2_name.data.toList.drop 23 = dktX2_name_1 := dk_seg dksX2_name_0 23 rfl rfl
theorem dksX2_name_2 : cX2_name.data.toList.drop 47 = dktX2_name_2 := dk_seg dksX2_name_1 24 rfl rfl
theorem dksX2_name_3 : cX2_name.data.toList.drop 70 = dktX2_name_3 := dk_seg dksX2_name_2 23 rfl rfl
theorem dX2_name_0 : decode cX2_name 0 = .ok (.aload_n 0, 1) := dk_42 (dk_at dksX2_name_0 0 rfl rfl)
theorem dX2_name_1 : decode cX2_name 1 = .ok (.getfield 49, 3) := dk_180 0 49 (dk_at dksX2_name_0 1 rfl rfl)
theorem dX2_name_4 : decode cX2_name 4 = .ok (.iconst 1, 1) := dk_4 (dk_at dksX2_name_0 4 rfl rfl)
theorem dX2_name_5 : decode cX2_name 5 = .ok (.if_icmp .ne 21, 3) := dk_160 0 21 (dk_at dksX2_name_0 5 rfl rfl)
theorem dX2_name_8 : decode cX2_name 8 = .ok (.aload_n 0, 1) := dk_42 (dk_at dksX2_name_0 8 rfl rfl)
theorem dX2_name_9 : decode cX2_name 9 = .ok (.ldc 105, 2) := dk_18 105 (dk_at dksX2_name_0 9 rfl rfl)
theorem dX2_name_11 : decode cX2_name 11 = .ok (.invokevirtual 89, 3) := dk_182 0 89 (dk_at dksX2_name_0 11 rfl rfl)
theorem dX2_name_14 : decode cX2_name 14 = .ok (.ifCond .ge 12, 3) := dk_156 0 12 (dk_at dksX2_name_0 14 rfl rfl)
theorem dX2_name_17 : decode cX2_name 17 = .ok (.aload_n 0, 1) := dk_42 (dk_at dksX2_name_0 17 rfl rfl)
theorem dX2_name_18 : decode cX2_name 18 = .ok (.ldc 109, 2) := dk_18 109 (dk_at dksX2_name_0 18 rfl rfl)
theorem dX2_name_20 : decode cX2_name 20 = .ok (.invokevirtual 89, 3) := dk_182 0 89 (dk_at dksX2_name_0 20 rfl rfl)
theorem dX2_name_23 : decode cX2_name 23 = .ok (.ifCond .lt 9, 3) := dk_155 0 9 (dk_at dksX2_name_1 0 rfl rfl)
theorem dX2_name_26 : decode cX2_name 26 = .ok (.aload_n 0, 1) := dk_42 (dk_at dksX2_name_1 3 rfl rfl)
theorem dX2_name_27 : decode cX2_name 27 = .ok (.iconst 1, 1) := dk_4 (dk_at dksX2_name_1 4 rfl rfl)
theorem dX2_name_28 : decode cX2_name 28 = .ok (.invokevirtual 97, 3) := dk_182 0 97 (dk_at dksX2_name_1 5 rfl rfl)
theorem dX2_name_31 : decode cX2_name 31 = .ok (.athrow, 1) := dk_191 (dk_at dksX2_name_1 8 rfl rfl)
theorem dX2_name_32 : decode cX2_name 32 = .ok (.new 111, 3) := dk_187 0 111 (dk_at dksX2_name_1 9 rfl rfl)
theorem dX2_name_35 : decode cX2_name 35 = .ok (.dup, 1) := dk_89 (dk_at dksX2_name_1 12 rfl rfl)
theorem dX2_name_36 : decode cX2_name 36 = .ok (.bipush 8, 2) := dk_16 8 (dk_at dksX2_name_1 13 rfl rfl)
theorem dX2_name_38 : decode cX2_name 38 = .ok (.invokespecial 113, 3) := dk_183 0 113 (dk_at dksX2_name_1 15 rfl rfl)
theorem dX2_name_41 : decode cX2_name 41 = .ok (.astore_n 1, 1) := dk_76 (dk_at dksX2_name_1 18 rfl rfl)
theorem dX2_name_42 : decode cX2_name 42 = .ok (.aload_n 0, 1) := dk_42 (dk_at dksX2_name_1 19 rfl rfl)
theorem dX2_name_43 : decode cX2_name 43 = .ok (.getfield 46, 3) := dk_180 0 46 (dk_at dksX2_name_1 20 rfl rfl)
theorem dX2_name_46 : decode cX2_name 46 = .ok (.istore_n 2, 1) := dk_61 (dk_at dksX2_name_1 23 rfl rfl)
theorem dX2_name_47 : decode cX2_name 47 = .ok (.iload_n 2, 1) := dk_28 (dk_at dksX2_name_2 0 rfl rfl)
theorem dX2_name_48 : decode cX2_name 48 = .ok (.aload_n 0, 1) := dk_42 (dk_at dksX2_name_2 1 rfl rfl)
theorem dX2_name_49 : decode cX2_name 49 = .ok (.getfield 28, 3) := dk_180 0 28 (dk_at dksX2_name_2 2 rfl rfl)
theorem dX2_name_52 : decode cX2_name 52 = .ok (.if_icmp .ge 21, 3) := dk_162 0 21 (dk_at dksX2_name_2 5 rfl rfl)
theorem dX2_name_55 : decode cX2_name 55 = .ok (.aload_n 1, 1) := dk_43 (dk_at dksX2_name_2 8 rfl rfl)
theorem dX2_name_56 : decode cX2_name 56 = .ok (.aload_n 0, 1) := dk_42 (dk_at dksX2_name_2 9 rfl rfl)
theorem dX2_name_57 : decode cX2_name 57 = .ok (.getfield 21, 3) := dk_180 0 21 (dk_at dksX2_name_2 10 rfl rfl)
theorem dX2_name_60 : decode cX2_name 60 = .ok (.iload_n 2, 1) := dk_28 (dk_at dksX2_name_2 13 rfl rfl)
theorem dX2_name_61 : decode cX2_name 61 = .ok (.baload, 1) := dk_51 (dk_at dksX2_name_2 14 rfl rfl)
theorem dX2_name_62 : decode cX2_name 62 = .ok (.i2c, 1) := dk_146 (dk_at dksX2_name_2 15 rfl rfl)
theorem dX2_name_63 : decode cX2_name 63 = .ok (.invokevirtual 116, 3) := dk_182 0 116 (dk_at dksX2_name_2 16 rfl rfl)
theorem dX2_name_66 : decode cX2_name 66 = .ok (.pop, 1) := dk_87 (dk_at dksX2_name_2 19 rfl rfl)
theorem dX2_name_67 : decode cX2_name 67 = .ok (.iinc 2 1, 3) := dk_132 2 1 (dk_at dksX2_name_2 20 rfl rfl)
theorem dX2_name_70 : decode cX2_name 70 = .ok (.goto (-23), 3) := dk_167 255 233 (dk_at dksX2_name_3 0 rfl rfl)
theorem dX2_name_73 : decode cX2_name 73 = .ok (.aload_n 1, 1) := dk_43 (dk_at dksX2_name_3 3 rfl rfl)
theorem dX2_name_74 : decode cX2_name 74 = .ok (.invokevirtual 120, 3) := dk_182 0 120 (dk_at dksX2_name_3 4 rfl rfl)
theorem dX2_name_77 : decode cX2_name 77 = .ok (.areturn, 1) := dk_176 (dk_at dksX2_name_3 7 rfl rfl)
abbrev cX2_need : ByteArray := prog_15_method_12_code
def yX2_need : MethodName := ⟨RX2, "need", "(C)V"⟩
def dkwX2_need_0 : List UInt8 := [42, 27, 182, 0, 101, 154, 0, 9, 42, 4, 182, 0, 97, 191, 42, 182, 0, 43, 177]
abbrev dktX2_need_0 : List UInt8 := dkwX2_need_0 ++ []
theorem dksX2_need_0 : cX2_need.data.toList.drop 0 = dktX2_need_0 := by decide +kernel
theorem dX2_need_0 : decode cX2_need 0 = .ok (.aload_n 0, 1) := dk_42 (dk_at dksX2_need_0 0 rfl rfl)
theorem dX2_need_1 : decode cX2_need 1 = .ok (.iload_n 1, 1) := dk_27 (dk_at dksX2_need_0 1 rfl rfl)
theorem dX2_need_2 : decode cX2_need 2 = .ok (.invokevirtual 101, 3) := dk_182 0 101 (dk_at dksX2_need_0 2 rfl rfl)
theorem dX2_need_5 : decode cX2_need 5 = .ok (.ifCond .ne 9, 3) := dk_154 0 9 (dk_at dksX2_need_0 5 rfl rfl)
theorem dX2_need_8 : decode cX2_need 8 = .ok (.aload_n 0, 1) := dk_42 (dk_at dksX2_need_0 8 rfl rfl)
theorem dX2_need_9 : decode cX2_need 9 = .ok (.iconst 1, 1) := dk_4 (dk_at dksX2_need_0 9 rfl rfl)
theorem dX2_need_10 : decode cX2_need 10 = .ok (.invokevirtual 97, 3) := dk_182 0 97 (dk_at dksX2_need_0 10 rfl rfl)
theorem dX2_need_13 : decode cX2_need 13 = .ok (.athrow, 1) := dk_191 (dk_at dksX2_need_0 13 rfl rfl)
theorem dX2_need_14 : decode cX2_need 14 = .ok (.aload_n 0, 1) := dk_42 (dk_at dksX2_need_0 14 rfl rfl)
theorem dX2_need_15 : decode cX2_need 15 = .ok (.invokevirtual 43, 3) := dk_182 0 43 (dk_at dksX2_need_0 15 rfl rfl)
theorem dX2_need_18 : decode cX2_need 18 = .ok (.return_, 1) := dk_177 (dk_at dksX2_need_0 18 rfl rfl)
abbrev cX2_isSign : ByteArray := prog_15_method_11_code
def yX2_isSign : MethodName := ⟨RX2, "isSign", "(C)Z"⟩
def dkwX2_isSign_1 : List UInt8 := [167, 0, 4, 3, 172]
abbrev dktX2_isSign_1 : List UInt8 := dkwX2_isSign_1 ++ []
def dkwX2_isSign_0 : List UInt8 := [42, 180, 0, 49, 6, 160, 0, 20, 42, 180, 0, 21, 42, 180, 0, 46, 51, 27, 160, 0, 7, 4]
abbrev dktX2_isSign_0 : List UInt8 := dkwX2_isSign_0 ++ dktX2_isSign_1
theorem dksX2_isSign_0 : cX2_isSign.data.toList.drop 0 = dktX2_isSign_0 := by decide +kernel
theorem dksX2_isSign_1 : cX2_isSign.data.toList.drop 22 = dktX2_isSign_1 := dk_seg dksX2_isSign_0 22 rfl rfl
theorem dX2_isSign_0 : decode cX2_isSign 0 = .ok (.aload_n 0, 1) := dk_42 (dk_at dksX2_isSign_0 0 rfl rfl)
theorem dX2_isSign_1 : decode cX2_isSign 1 = .ok (.getfield 49, 3) := dk_180 0 49 (dk_at dksX2_isSign_0 1 rfl rfl)
theorem dX2_isSign_4 : decode cX2_isSign 4 = .ok (.iconst 3, 1) := dk_6 (dk_at dksX2_isSign_0 4 rfl rfl)
theorem dX2_isSign_5 : decode cX2_isSign 5 = .ok (.if_icmp .ne 20, 3) := dk_160 0 20 (dk_at dksX2_isSign_0 5 rfl rfl)
theorem dX2_isSign_8 : decode cX2_isSign 8 = .ok (.aload_n 0, 1) := dk_42 (dk_at dksX2_isSign_0 8 rfl rfl)
theorem dX2_isSign_9 : decode cX2_isSign 9 = .ok (.getfield 21, 3) := dk_180 0 21 (dk_at dksX2_isSign_0 9 rfl rfl)
theorem dX2_isSign_12 : decode cX2_isSign 12 = .ok (.aload_n 0, 1) := dk_42 (dk_at dksX2_isSign_0 12 rfl rfl)
theorem dX2_isSign_13 : decode cX2_isSign 13 = .ok (.getfield 46, 3) := dk_180 0 46 (dk_at dksX2_isSign_0 13 rfl rfl)
theorem dX2_isSign_16 : decode cX2_isSign 16 = .ok (.baload, 1) := dk_51 (dk_at dksX2_isSign_0 16 rfl rfl)
theorem dX2_isSign_17 : decode cX2_isSign 17 = .ok (.iload_n 1, 1) := dk_27 (dk_at dksX2_isSign_0 17 rfl rfl)
theorem dX2_isSign_18 : decode cX2_isSign 18 = .ok (.if_icmp .ne 7, 3) := dk_160 0 7 (dk_at dksX2_isSign_0 18 rfl rfl)
theorem dX2_isSign_21 : decode cX2_isSign 21 = .ok (.iconst 1, 1) := dk_4 (dk_at dksX2_isSign_0 21 rfl rfl)
theorem dX2_isSign_22 : decode cX2_isSign 22 = .ok (.goto 4, 3) := dk_167 0 4 (dk_at dksX2_isSign_1 0 rfl rfl)
theorem dX2_isSign_25 : decode cX2_isSign 25 = .ok (.iconst 0, 1) := dk_3 (dk_at dksX2_isSign_1 3 rfl rfl)
theorem dX2_isSign_26 : decode cX2_isSign 26 = .ok (.ireturn, 1) := dk_172 (dk_at dksX2_isSign_1 4 rfl rfl)
abbrev cX2_e : ByteArray := prog_15_method_17_code
def yX2_e : MethodName := ⟨RX2, "e", "()LSecretBuyers$Exp;"⟩
def dkwX2_e_3 : List UInt8 := [43, 167, 0, 4, 44, 176]
abbrev dktX2_e_3 : List UInt8 := dkwX2_e_3 ++ []
def dkwX2_e_2 : List UInt8 := [16, 111, 42, 182, 0, 184, 182, 0, 192, 77, 42, 18, 187, 182, 0, 89, 62, 167, 255, 206, 44, 199, 0, 7]
abbrev dktX2_e_2 : List UInt8 := dkwX2_e_2 ++ dktX2_e_3
def dkwX2_e_1 : List UInt8 := [199, 0, 14, 187, 0, 189, 89, 43, 183, 0, 191, 167, 0, 4, 44, 29, 154, 0, 8, 16, 97, 167, 0, 5]
abbrev dktX2_e_1 : List UInt8 := dkwX2_e_1 ++ dktX2_e_2
def dkwX2_e_0 : List UInt8 := [42, 182, 0, 184, 76, 1, 77, 42, 18, 187, 182, 0, 89, 62, 29, 155, 0, 52, 42, 182, 0, 43, 44]
abbrev dktX2_e_0 : List UInt8 := dkwX2_e_0 ++ dktX2_e_1
theorem dksX2_e_0 : cX2_e.data.toList.drop 0 = dktX2_e_0 := by decide +kernel
theorem dksX2_e_1 : cX2_e.data.toList.drop 23 = dktX2_e_1 := dk_seg dksX2_e_0 23 rfl rfl
theorem dksX2_e_2 : cX2_e.data.toList.drop 47 = dktX2_e_2 := dk_seg dksX2_e_1 24 rfl rfl
theorem dksX2_e_3 : cX2_e.data.toList.drop 71 = dktX2_e_3 := dk_seg dksX2_e_2 24 rfl rfl
theorem dX2_e_0 : decode cX2_e 0 = .ok (.aload_n 0, 1) := dk_42 (dk_at dksX2_e_0 0 rfl rfl)
theorem dX2_e_1 : decode cX2_e 1 = .ok (.invokevirtual 184, 3) := dk_182 0 184 (dk_at dksX2_e_0 1 rfl rfl)
theorem dX2_e_4 : decode cX2_e 4 = .ok (.astore_n 1, 1) := dk_76 (dk_at dksX2_e_0 4 rfl rfl)
theorem dX2_e_5 : decode cX2_e 5 = .ok (.aconst_null, 1) := dk_1 (dk_at dksX2_e_0 5 rfl rfl)
theorem dX2_e_6 : decode cX2_e 6 = .ok (.astore_n 2, 1) := dk_77 (dk_at dksX2_e_0 6 rfl rfl)
theorem dX2_e_7 : decode cX2_e 7 = .ok (.aload_n 0, 1) := dk_42 (dk_at dksX2_e_0 7 rfl rfl)
theorem dX2_e_8 : decode cX2_e 8 = .ok (.ldc 187, 2) := dk_18 187 (dk_at dksX2_e_0 8 rfl rfl)
theorem dX2_e_10 : decode cX2_e 10 = .ok (.invokevirtual 89, 3) := dk_182 0 89 (dk_at dksX2_e_0 10 rfl rfl)
theorem dX2_e_13 : decode cX2_e 13 = .ok (.istore_n 3, 1) := dk_62 (dk_at dksX2_e_0 13 rfl rfl)
theorem dX2_e_14 : decode cX2_e 14 = .ok (.iload_n 3, 1) := dk_29 (dk_at dksX2_e_0 14 rfl rfl)
theorem dX2_e_15 : decode cX2_e 15 = .ok (.ifCond .lt 52, 3) := dk_155 0 52 (dk_at dksX2_e_0 15 rfl rfl)
theorem dX2_e_18 : decode cX2_e 18 = .ok (.aload_n 0, 1) := dk_42 (dk_at dksX2_e_0 18 rfl rfl)
theorem dX2_e_19 : decode cX2_e 19 = .ok (.invokevirtual 43, 3) := dk_182 0 43 (dk_at dksX2_e_0 19 rfl rfl)
theorem dX2_e_22 : decode cX2_e 22 = .ok (.aload_n 2, 1) := dk_44 (dk_at dksX2_e_0 22 rfl rfl)
theorem dX2_e_23 : decode cX2_e 23 = .ok (.ifnonnull 14, 3) := dk_199 0 14 (dk_at dksX2_e_1 0 rfl rfl)
theorem dX2_e_26 : decode cX2_e 26 = .ok (.new 189, 3) := dk_187 0 189 (dk_at dksX2_e_1 3 rfl rfl)
theorem dX2_e_29 : decode cX2_e 29 = .ok (.dup, 1) := dk_89 (dk_at dksX2_e_1 6 rfl rfl)
theorem dX2_e_30 : decode cX2_e 30 = .ok (.aload_n 1, 1) := dk_43 (dk_at dksX2_e_1 7 rfl rfl)
theorem dX2_e_31 : decode cX2_e 31 = .ok (.invokespecial 191, 3) := dk_183 0 191 (dk_at dksX2_e_1 8 rfl rfl)
theorem dX2_e_34 : decode cX2_e 34 = .ok (.goto 4, 3) := dk_167 0 4 (dk_at dksX2_e_1 11 rfl rfl)
theorem dX2_e_37 : decode cX2_e 37 = .ok (.aload_n 2, 1) := dk_44 (dk_at dksX2_e_1 14 rfl rfl)
theorem dX2_e_38 : decode cX2_e 38 = .ok (.iload_n 3, 1) := dk_29 (dk_at dksX2_e_1 15 rfl rfl)
theorem dX2_e_39 : decode cX2_e 39 = .ok (.ifCond .ne 8, 3) := dk_154 0 8 (dk_at dksX2_e_1 16 rfl rfl)
theorem dX2_e_42 : decode cX2_e 42 = .ok (.bipush 97, 2) := dk_16 97 (dk_at dksX2_e_1 19 rfl rfl)
theorem dX2_e_44 : decode cX2_e 44 = .ok (.goto 5, 3) := dk_167 0 5 (dk_at dksX2_e_1 21 rfl rfl)
theorem dX2_e_47 : decode cX2_e 47 = .ok (.bipush 111, 2) := dk_16 111 (dk_at dksX2_e_2 0 rfl rfl)
theorem dX2_e_49 : decode cX2_e 49 = .ok (.aload_n 0, 1) := dk_42 (dk_at dksX2_e_2 2 rfl rfl)
theorem dX2_e_50 : decode cX2_e 50 = .ok (.invokevirtual 184, 3) := dk_182 0 184 (dk_at dksX2_e_2 3 rfl rfl)
theorem dX2_e_53 : decode cX2_e 53 = .ok (.invokevirtual 192, 3) := dk_182 0 192 (dk_at dksX2_e_2 6 rfl rfl)
theorem dX2_e_56 : decode cX2_e 56 = .ok (.astore_n 2, 1) := dk_77 (dk_at dksX2_e_2 9 rfl rfl)
theorem dX2_e_57 : decode cX2_e 57 = .ok (.aload_n 0, 1) := dk_42 (dk_at dksX2_e_2 10 rfl rfl)
theorem dX2_e_58 : decode cX2_e 58 = .ok (.ldc 187, 2) := dk_18 187 (dk_at dksX2_e_2 11 rfl rfl)
theorem dX2_e_60 : decode cX2_e 60 = .ok (.invokevirtual 89, 3) := dk_182 0 89 (dk_at dksX2_e_2 13 rfl rfl)
theorem dX2_e_63 : decode cX2_e 63 = .ok (.istore_n 3, 1) := dk_62 (dk_at dksX2_e_2 16 rfl rfl)
theorem dX2_e_64 : decode cX2_e 64 = .ok (.goto (-50), 3) := dk_167 255 206 (dk_at dksX2_e_2 17 rfl rfl)
theorem dX2_e_67 : decode cX2_e 67 = .ok (.aload_n 2, 1) := dk_44 (dk_at dksX2_e_2 20 rfl rfl)
theorem dX2_e_68 : decode cX2_e 68 = .ok (.ifnonnull 7, 3) := dk_199 0 7 (dk_at dksX2_e_2 21 rfl rfl)
theorem dX2_e_71 : decode cX2_e 71 = .ok (.aload_n 1, 1) := dk_43 (dk_at dksX2_e_3 0 rfl rfl)
theorem dX2_e_72 : decode cX2_e 72 = .ok (.goto 4, 3) := dk_167 0 4 (dk_at dksX2_e_3 1 rfl rfl)
theorem dX2_e_75 : decode cX2_e 75 = .ok (.aload_n 2, 1) := dk_44 (dk_at dksX2_e_3 4 rfl rfl)
theorem dX2_e_76 : decode cX2_e 76 = .ok (.areturn, 1) := dk_176 (dk_at dksX2_e_3 5 rfl rfl)
abbrev cX2_test : ByteArray := prog_15_method_18_code
def yX2_test : MethodName := ⟨RX2, "test", "()LSecretBuyers$Exp;"⟩
def dkwX2_test_2 : List UInt8 := [28, 42, 182, 0, 196, 182, 0, 192, 176]
abbrev dktX2_test_2 : List UInt8 := dkwX2_test_2 ++ []
def dkwX2_test_1 : List UInt8 := [176, 42, 180, 0, 21, 42, 180, 0, 46, 51, 146, 61, 42, 182, 0, 43, 187, 0, 189, 89, 43, 183, 0, 191]
abbrev dktX2_test_1 : List UInt8 := dkwX2_test_1 ++ dktX2_test_2
def dkwX2_test_0 : List UInt8 := [42, 182, 0, 196, 76, 42, 16, 60, 182, 0, 101, 154, 0, 14, 42, 16, 61, 182, 0, 101, 154, 0, 5, 43]
abbrev dktX2_test_0 : List UInt8 := dkwX2_test_0 ++ dktX2_test_1
theorem dksX2_test_0 : cX2_test.data.toList.drop 0 = dktX2_test_0 := by decide +kernel
theorem dksX2_test_1 : cX2_test.data.toList.drop 24 = dktX2_test_1 := dk_seg dksX2_test_0 24 rfl rfl
theorem dksX2_test_2 : cX2_test.data.toList.drop 48 = dktX2_test_2 := dk_seg dksX2_test_1 24 rfl rfl
theorem dX2_test_0 : decode cX2_test 0 = .ok (.aload_n 0, 1) := dk_42 (dk_at dksX2_test_0 0 rfl rfl)
theorem dX2_test_1 : decode cX2_test 1 = .ok (.invokevirtual 196, 3) := dk_182 0 196 (dk_at dksX2_test_0 1 rfl rfl)
theorem dX2_test_4 : decode cX2_test 4 = .ok (.astore_n 1, 1) := dk_76 (dk_at dksX2_test_0 4 rfl rfl)
theorem dX2_test_5 : decode cX2_test 5 = .ok (.aload_n 0, 1) := dk_42 (dk_at dksX2_test_0 5 rfl rfl)
theorem dX2_test_6 : decode cX2_test 6 = .ok (.bipush 60, 2) := dk_16 60 (dk_at dksX2_test_0 6 rfl rfl)
theorem dX2_test_8 : decode cX2_test 8 = .ok (.invokevirtual 101, 3) := dk_182 0 101 (dk_at dksX2_test_0 8 rfl rfl)
theorem dX2_test_11 : decode cX2_test 11 = .ok (.ifCond .ne 14, 3) := dk_154 0 14 (dk_at dksX2_test_0 11 rfl rfl)
theorem dX2_test_14 : decode cX2_test 14 = .ok (.aload_n 0, 1) := dk_42 (dk_at dksX2_test_0 14 rfl rfl)
theorem dX2_test_15 : decode cX2_test 15 = .ok (.bipush 61, 2) := dk_16 61 (dk_at dksX2_test_0 15 rfl rfl)
theorem dX2_test_17 : decode cX2_test 17 = .ok (.invokevirtual 101, 3) := dk_182 0 101 (dk_at dksX2_test_0 17 rfl rfl)
theorem dX2_test_20 : decode cX2_test 20 = .ok (.ifCond .ne 5, 3) := dk_154 0 5 (dk_at dksX2_test_0 20 rfl rfl)
theorem dX2_test_23 : decode cX2_test 23 = .ok (.aload_n 1, 1) := dk_43 (dk_at dksX2_test_0 23 rfl rfl)
theorem dX2_test_24 : decode cX2_test 24 = .ok (.areturn, 1) := dk_176 (dk_at dksX2_test_1 0 rfl rfl)
theorem dX2_test_25 : decode cX2_test 25 = .ok (.aload_n 0, 1) := dk_42 (dk_at dksX2_test_1 1 rfl rfl)
theorem dX2_test_26 : decode cX2_test 26 = .ok (.getfield 21, 3) := dk_180 0 21 (dk_at dksX2_test_1 2 rfl rfl)
theorem dX2_test_29 : decode cX2_test 29 = .ok (.aload_n 0, 1) := dk_42 (dk_at dksX2_test_1 5 rfl rfl)
theorem dX2_test_30 : decode cX2_test 30 = .ok (.getfield 46, 3) := dk_180 0 46 (dk_at dksX2_test_1 6 rfl rfl)
theorem dX2_test_33 : decode cX2_test 33 = .ok (.baload, 1) := dk_51 (dk_at dksX2_test_1 9 rfl rfl)
theorem dX2_test_34 : decode cX2_test 34 = .ok (.i2c, 1) := dk_146 (dk_at dksX2_test_1 10 rfl rfl)
theorem dX2_test_35 : decode cX2_test 35 = .ok (.istore_n 2, 1) := dk_61 (dk_at dksX2_test_1 11 rfl rfl)
theorem dX2_test_36 : decode cX2_test 36 = .ok (.aload_n 0, 1) := dk_42 (dk_at dksX2_test_1 12 rfl rfl)
theorem dX2_test_37 : decode cX2_test 37 = .ok (.invokevirtual 43, 3) := dk_182 0 43 (dk_at dksX2_test_1 13 rfl rfl)
theorem dX2_test_40 : decode cX2_test 40 = .ok (.new 189, 3) := dk_187 0 189 (dk_at dksX2_test_1 16 rfl rfl)
theorem dX2_test_43 : decode cX2_test 43 = .ok (.dup, 1) := dk_89 (dk_at dksX2_test_1 19 rfl rfl)
theorem dX2_test_44 : decode cX2_test 44 = .ok (.aload_n 1, 1) := dk_43 (dk_at dksX2_test_1 20 rfl rfl)
theorem dX2_test_45 : decode cX2_test 45 = .ok (.invokespecial 191, 3) := dk_183 0 191 (dk_at dksX2_test_1 21 rfl rfl)
theorem dX2_test_48 : decode cX2_test 48 = .ok (.iload_n 2, 1) := dk_28 (dk_at dksX2_test_2 0 rfl rfl)
theorem dX2_test_49 : decode cX2_test 49 = .ok (.aload_n 0, 1) := dk_42 (dk_at dksX2_test_2 1 rfl rfl)
theorem dX2_test_50 : decode cX2_test 50 = .ok (.invokevirtual 196, 3) := dk_182 0 196 (dk_at dksX2_test_2 2 rfl rfl)
theorem dX2_test_53 : decode cX2_test 53 = .ok (.invokevirtual 192, 3) := dk_182 0 192 (dk_at dksX2_test_2 5 rfl rfl)
theorem dX2_test_56 : decode cX2_test 56 = .ok (.areturn, 1) := dk_176 (dk_at dksX2_test_2 8 rfl rfl)
abbrev cX2_sum : ByteArray := prog_15_method_19_code
def yX2_sum : MethodName := ⟨RX2, "sum", "()LSecretBuyers$Exp;"⟩
def dkwX2_sum_3 : List UInt8 := [44, 199, 0, 7, 43, 167, 0, 4, 44, 176]
abbrev dktX2_sum_3 : List UInt8 := dkwX2_sum_3 ++ []
def dkwX2_sum_2 : List UInt8 := [187, 0, 189, 89, 43, 183, 0, 191, 167, 0, 4, 44, 29, 42, 182, 0, 199, 182, 0, 192, 77, 167, 255, 198]
abbrev dktX2_sum_2 : List UInt8 := dkwX2_sum_2 ++ dktX2_sum_3
def dkwX2_sum_1 : List UInt8 := [153, 0, 46, 42, 180, 0, 21, 42, 180, 0, 46, 51, 146, 62, 42, 182, 0, 43, 44, 199, 0, 14]
abbrev dktX2_sum_1 : List UInt8 := dkwX2_sum_1 ++ dktX2_sum_2
def dkwX2_sum_0 : List UInt8 := [42, 182, 0, 199, 76, 1, 77, 42, 16, 43, 182, 0, 101, 154, 0, 12, 42, 16, 45, 182, 0, 101]
abbrev dktX2_sum_0 : List UInt8 := dkwX2_sum_0 ++ dktX2_sum_1
theorem dksX2_sum_0 : cX2_sum.data.toList.drop 0 = dktX2_sum_0 := by decide +kernel
theorem dksX2_sum_1 : cX2_sum.data.toList.drop 22 = dktX2_sum_1 := dk_seg dksX2_sum_0 22 rfl rfl
theorem dksX2_sum_2 : cX2_sum.data.toList.drop 44 = dktX2_sum_2 := dk_seg dksX2_sum_1 22 rfl rfl
theorem dksX2_sum_3 : cX2_sum.data.toList.drop 68 = dktX2_sum_3 := dk_seg dksX2_sum_2 24 rfl rfl
theorem dX2_sum_0 : decode cX2_sum 0 = .ok (.aload_n 0, 1) := dk_42 (dk_at dksX2_sum_0 0 rfl rfl)
theorem dX2_sum_1 : decode cX2_sum 1 = .ok (.invokevirtual 199, 3) := dk_182 0 199 (dk_at dksX2_sum_0 1 rfl rfl)
theorem dX2_sum_4 : decode cX2_sum 4 = .ok (.astore_n 1, 1) := dk_76 (dk_at dksX2_sum_0 4 rfl rfl)
theorem dX2_sum_5 : decode cX2_sum 5 = .ok (.aconst_null, 1) := dk_1 (dk_at dksX2_sum_0 5 rfl rfl)
theorem dX2_sum_6 : decode cX2_sum 6 = .ok (.astore_n 2, 1) := dk_77 (dk_at dksX2_sum_0 6 rfl rfl)
theorem dX2_sum_7 : decode cX2_sum 7 = .ok (.aload_n 0, 1) := dk_42 (dk_at dksX2_sum_0 7 rfl rfl)
theorem dX2_sum_8 : decode cX2_sum 8 = .ok (.bipush 43, 2) := dk_16 43 (dk_at dksX2_sum_0 8 rfl rfl)
theorem dX2_sum_10 : decode cX2_sum 10 = .ok (.invokevirtual 101, 3) := dk_182 0 101 (dk_at dksX2_sum_0 10 rfl rfl)
theorem dX2_sum_13 : decode cX2_sum 13 = .ok (.ifCond .ne 12, 3) := dk_154 0 12 (dk_at dksX2_sum_0 13 rfl rfl)
theorem dX2_sum_16 : decode cX2_sum 16 = .ok (.aload_n 0, 1) := dk_42 (dk_at dksX2_sum_0 16 rfl rfl)
theorem dX2_sum_17 : decode cX2_sum 17 = .ok (.bipush 45, 2) := dk_16 45 (dk_at dksX2_sum_0 17 rfl rfl)
theorem dX2_sum_19 : decode cX2_sum 19 = .ok (.invokevirtual 101, 3) := dk_182 0 101 (dk_at dksX2_sum_0 19 rfl rfl)
theorem dX2_sum_22 : decode cX2_sum 22 = .ok (.ifCond .eq 46, 3) := dk_153 0 46 (dk_at dksX2_sum_1 0 rfl rfl)
theorem dX2_sum_25 : decode cX2_sum 25 = .ok (.aload_n 0, 1) := dk_42 (dk_at dksX2_sum_1 3 rfl rfl)
theorem dX2_sum_26 : decode cX2_sum 26 = .ok (.getfield 21, 3) := dk_180 0 21 (dk_at dksX2_sum_1 4 rfl rfl)
theorem dX2_sum_29 : decode cX2_sum 29 = .ok (.aload_n 0, 1) := dk_42 (dk_at dksX2_sum_1 7 rfl rfl)
theorem dX2_sum_30 : decode cX2_sum 30 = .ok (.getfield 46, 3) := dk_180 0 46 (dk_at dksX2_sum_1 8 rfl rfl)
theorem dX2_sum_33 : decode cX2_sum 33 = .ok (.baload, 1) := dk_51 (dk_at dksX2_sum_1 11 rfl rfl)
theorem dX2_sum_34 : decode cX2_sum 34 = .ok (.i2c, 1) := dk_146 (dk_at dksX2_sum_1 12 rfl rfl)
theorem dX2_sum_35 : decode cX2_sum 35 = .ok (.istore_n 3, 1) := dk_62 (dk_at dksX2_sum_1 13 rfl rfl)
theorem dX2_sum_36 : decode cX2_sum 36 = .ok (.aload_n 0, 1) := dk_42 (dk_at dksX2_sum_1 14 rfl rfl)
theorem dX2_sum_37 : decode cX2_sum 37 = .ok (.invokevirtual 43, 3) := dk_182 0 43 (dk_at dksX2_sum_1 15 rfl rfl)
theorem dX2_sum_40 : decode cX2_sum 40 = .ok (.aload_n 2, 1) := dk_44 (dk_at dksX2_sum_1 18 rfl rfl)
theorem dX2_sum_41 : decode cX2_sum 41 = .ok (.ifnonnull 14, 3) := dk_199 0 14 (dk_at dksX2_sum_1 19 rfl rfl)
theorem dX2_sum_44 : decode cX2_sum 44 = .ok (.new 189, 3) := dk_187 0 189 (dk_at dksX2_sum_2 0 rfl rfl)
theorem dX2_sum_47 : decode cX2_sum 47 = .ok (.dup, 1) := dk_89 (dk_at dksX2_sum_2 3 rfl rfl)
theorem dX2_sum_48 : decode cX2_sum 48 = .ok (.aload_n 1, 1) := dk_43 (dk_at dksX2_sum_2 4 rfl rfl)
theorem dX2_sum_49 : decode cX2_sum 49 = .ok (.invokespecial 191, 3) := dk_183 0 191 (dk_at dksX2_sum_2 5 rfl rfl)
theorem dX2_sum_52 : decode cX2_sum 52 = .ok (.goto 4, 3) := dk_167 0 4 (dk_at dksX2_sum_2 8 rfl rfl)
theorem dX2_sum_55 : decode cX2_sum 55 = .ok (.aload_n 2, 1) := dk_44 (dk_at dksX2_sum_2 11 rfl rfl)
theorem dX2_sum_56 : decode cX2_sum 56 = .ok (.iload_n 3, 1) := dk_29 (dk_at dksX2_sum_2 12 rfl rfl)
theorem dX2_sum_57 : decode cX2_sum 57 = .ok (.aload_n 0, 1) := dk_42 (dk_at dksX2_sum_2 13 rfl rfl)
theorem dX2_sum_58 : decode cX2_sum 58 = .ok (.invokevirtual 199, 3) := dk_182 0 199 (dk_at dksX2_sum_2 14 rfl rfl)
theorem dX2_sum_61 : decode cX2_sum 61 = .ok (.invokevirtual 192, 3) := dk_182 0 192 (dk_at dksX2_sum_2 17 rfl rfl)
theorem dX2_sum_64 : decode cX2_sum 64 = .ok (.astore_n 2, 1) := dk_77 (dk_at dksX2_sum_2 20 rfl rfl)
theorem dX2_sum_65 : decode cX2_sum 65 = .ok (.goto (-58), 3) := dk_167 255 198 (dk_at dksX2_sum_2 21 rfl rfl)
theorem dX2_sum_68 : decode cX2_sum 68 = .ok (.aload_n 2, 1) := dk_44 (dk_at dksX2_sum_3 0 rfl rfl)
theorem dX2_sum_69 : decode cX2_sum 69 = .ok (.ifnonnull 7, 3) := dk_199 0 7 (dk_at dksX2_sum_3 1 rfl rfl)
theorem dX2_sum_72 : decode cX2_sum 72 = .ok (.aload_n 1, 1) := dk_43 (dk_at dksX2_sum_3 4 rfl rfl)
theorem dX2_sum_73 : decode cX2_sum 73 = .ok (.goto 4, 3) := dk_167 0 4 (dk_at dksX2_sum_3 5 rfl rfl)
theorem dX2_sum_76 : decode cX2_sum 76 = .ok (.aload_n 2, 1) := dk_44 (dk_at dksX2_sum_3 8 rfl rfl)
theorem dX2_sum_77 : decode cX2_sum 77 = .ok (.areturn, 1) := dk_176 (dk_at dksX2_sum_3 9 rfl rfl)
abbrev cX2_term : ByteArray := prog_15_method_20_code
def yX2_term : MethodName := ⟨RX2, "term", "()LSecretBuyers$Exp;"⟩
def dkwX2_term_2 : List UInt8 := [167, 255, 217, 44, 199, 0, 7, 43, 167, 0, 4, 44, 176]
abbrev dktX2_term_2 : List UInt8 := dkwX2_term_2 ++ []
def dkwX2_term_1 : List UInt8 := [187, 0, 189, 89, 43, 183, 0, 191, 167, 0, 4, 44, 16, 42, 42, 182, 0, 202, 182, 0, 192, 77]
abbrev dktX2_term_1 : List UInt8 := dkwX2_term_1 ++ dktX2_term_2
def dkwX2_term_0 : List UInt8 := [42, 182, 0, 202, 76, 1, 77, 42, 16, 42, 182, 0, 101, 153, 0, 36, 42, 182, 0, 43, 44, 199, 0, 14]
abbrev dktX2_term_0 : List UInt8 := dkwX2_term_0 ++ dktX2_term_1
theorem dksX2_term_0 : cX2_term.data.toList.drop 0 = dktX2_term_0 := by decide +kernel
theorem dksX2_term_1 : cX2_term.data.toList.drop 24 = dktX2_term_1 := dk_seg dksX2_term_0 24 rfl rfl
theorem dksX2_term_2 : cX2_term.data.toList.drop 46 = dktX2_term_2 := dk_seg dksX2_term_1 22 rfl rfl
theorem dX2_term_0 : decode cX2_term 0 = .ok (.aload_n 0, 1) := dk_42 (dk_at dksX2_term_0 0 rfl rfl)
theorem dX2_term_1 : decode cX2_term 1 = .ok (.invokevirtual 202, 3) := dk_182 0 202 (dk_at dksX2_term_0 1 rfl rfl)
theorem dX2_term_4 : decode cX2_term 4 = .ok (.astore_n 1, 1) := dk_76 (dk_at dksX2_term_0 4 rfl rfl)
theorem dX2_term_5 : decode cX2_term 5 = .ok (.aconst_null, 1) := dk_1 (dk_at dksX2_term_0 5 rfl rfl)
theorem dX2_term_6 : decode cX2_term 6 = .ok (.astore_n 2, 1) := dk_77 (dk_at dksX2_term_0 6 rfl rfl)
theorem dX2_term_7 : decode cX2_term 7 = .ok (.aload_n 0, 1) := dk_42 (dk_at dksX2_term_0 7 rfl rfl)
theorem dX2_term_8 : decode cX2_term 8 = .ok (.bipush 42, 2) := dk_16 42 (dk_at dksX2_term_0 8 rfl rfl)
theorem dX2_term_10 : decode cX2_term 10 = .ok (.invokevirtual 101, 3) := dk_182 0 101 (dk_at dksX2_term_0 10 rfl rfl)
theorem dX2_term_13 : decode cX2_term 13 = .ok (.ifCond .eq 36, 3) := dk_153 0 36 (dk_at dksX2_term_0 13 rfl rfl)
theorem dX2_term_16 : decode cX2_term 16 = .ok (.aload_n 0, 1) := dk_42 (dk_at dksX2_term_0 16 rfl rfl)
theorem dX2_term_17 : decode cX2_term 17 = .ok (.invokevirtual 43, 3) := dk_182 0 43 (dk_at dksX2_term_0 17 rfl rfl)
theorem dX2_term_20 : decode cX2_term 20 = .ok (.aload_n 2, 1) := dk_44 (dk_at dksX2_term_0 20 rfl rfl)
theorem dX2_term_21 : decode cX2_term 21 = .ok (.ifnonnull 14, 3) := dk_199 0 14 (dk_at dksX2_term_0 21 rfl rfl)
theorem dX2_term_24 : decode cX2_term 24 = .ok (.new 189, 3) := dk_187 0 189 (dk_at dksX2_term_1 0 rfl rfl)
theorem dX2_term_27 : decode cX2_term 27 = .ok (.dup, 1) := dk_89 (dk_at dksX2_term_1 3 rfl rfl)
theorem dX2_term_28 : decode cX2_term 28 = .ok (.aload_n 1, 1) := dk_43 (dk_at dksX2_term_1 4 rfl rfl)
theorem dX2_term_29 : decode cX2_term 29 = .ok (.invokespecial 191, 3) := dk_183 0 191 (dk_at dksX2_term_1 5 rfl rfl)
theorem dX2_term_32 : decode cX2_term 32 = .ok (.goto 4, 3) := dk_167 0 4 (dk_at dksX2_term_1 8 rfl rfl)
theorem dX2_term_35 : decode cX2_term 35 = .ok (.aload_n 2, 1) := dk_44 (dk_at dksX2_term_1 11 rfl rfl)
theorem dX2_term_36 : decode cX2_term 36 = .ok (.bipush 42, 2) := dk_16 42 (dk_at dksX2_term_1 12 rfl rfl)
theorem dX2_term_38 : decode cX2_term 38 = .ok (.aload_n 0, 1) := dk_42 (dk_at dksX2_term_1 14 rfl rfl)
theorem dX2_term_39 : decode cX2_term 39 = .ok (.invokevirtual 202, 3) := dk_182 0 202 (dk_at dksX2_term_1 15 rfl rfl)
theorem dX2_term_42 : decode cX2_term 42 = .ok (.invokevirtual 192, 3) := dk_182 0 192 (dk_at dksX2_term_1 18 rfl rfl)
theorem dX2_term_45 : decode cX2_term 45 = .ok (.astore_n 2, 1) := dk_77 (dk_at dksX2_term_1 21 rfl rfl)
theorem dX2_term_46 : decode cX2_term 46 = .ok (.goto (-39), 3) := dk_167 255 217 (dk_at dksX2_term_2 0 rfl rfl)
theorem dX2_term_49 : decode cX2_term 49 = .ok (.aload_n 2, 1) := dk_44 (dk_at dksX2_term_2 3 rfl rfl)
theorem dX2_term_50 : decode cX2_term 50 = .ok (.ifnonnull 7, 3) := dk_199 0 7 (dk_at dksX2_term_2 4 rfl rfl)
theorem dX2_term_53 : decode cX2_term 53 = .ok (.aload_n 1, 1) := dk_43 (dk_at dksX2_term_2 7 rfl rfl)
theorem dX2_term_54 : decode cX2_term 54 = .ok (.goto 4, 3) := dk_167 0 4 (dk_at dksX2_term_2 8 rfl rfl)
theorem dX2_term_57 : decode cX2_term 57 = .ok (.aload_n 2, 1) := dk_44 (dk_at dksX2_term_2 11 rfl rfl)
theorem dX2_term_58 : decode cX2_term 58 = .ok (.areturn, 1) := dk_176 (dk_at dksX2_term_2 12 rfl rfl)
abbrev cX2_part : ByteArray := prog_15_method_21_code
def yX2_part : MethodName := ⟨RX2, "part", "()LSecretBuyers$Exp;"⟩
def dkwX2_part_12 : List UInt8 := [42, 16, 41, 182, 0, 167, 42, 89, 180, 0, 31, 4, 100, 181, 0, 31, 25, 8, 176]
abbrev dktX2_part_12 : List UInt8 := dkwX2_part_12 ++ []
def dkwX2_part_11 : List UInt8 := [187, 0, 221, 89, 42, 182, 0, 202, 183, 0, 223, 167, 0, 7, 42, 182, 0, 135, 58, 8, 28, 154, 0, 9]
abbrev dktX2_part_11 : List UInt8 := dkwX2_part_11 ++ dktX2_part_12
def dkwX2_part_10 : List UInt8 := [187, 0, 218, 89, 21, 6, 183, 0, 220, 176, 42, 89, 180, 0, 31, 4, 96, 181, 0, 31, 28, 153, 0, 17]
abbrev dktX2_part_10 : List UInt8 := dkwX2_part_10 ++ dktX2_part_11
def dkwX2_part_9 : List UInt8 := [183, 0, 214, 176, 21, 4, 153, 0, 13, 187, 0, 215, 89, 21, 5, 183, 0, 217, 176, 21, 7, 153, 0, 13]
abbrev dktX2_part_9 : List UInt8 := dkwX2_part_9 ++ dktX2_part_10
def dkwX2_part_8 : List UInt8 := [3, 16, 11, 182, 0, 148, 183, 0, 214, 176, 27, 155, 0, 15, 187, 0, 212, 89, 16, 12, 27, 96]
abbrev dktX2_part_8 : List UInt8 := dkwX2_part_8 ++ dktX2_part_9
def dkwX2_part_7 : List UInt8 := [5, 160, 0, 7, 4, 167, 0, 4, 3, 54, 7, 42, 182, 0, 43, 29, 153, 0, 18, 187, 0, 212, 89, 42]
abbrev dktX2_part_7 : List UInt8 := dkwX2_part_7 ++ dktX2_part_8
def dkwX2_part_6 : List UInt8 := [42, 180, 0, 31, 7, 160, 0, 9, 42, 8, 182, 0, 97, 191, 42, 180, 0, 63, 54, 6, 42, 180, 0, 49]
abbrev dktX2_part_6 : List UInt8 := dkwX2_part_6 ++ dktX2_part_7
def dkwX2_part_5 : List UInt8 := [42, 182, 0, 170, 182, 0, 209, 167, 0, 4, 3, 54, 5, 21, 5, 156, 0, 9, 42, 5, 182, 0, 97, 191]
abbrev dktX2_part_5 : List UInt8 := dkwX2_part_5 ++ dktX2_part_6
def dkwX2_part_4 : List UInt8 := [182, 0, 101, 154, 0, 9, 42, 4, 182, 0, 97, 191, 21, 4, 153, 0, 20, 42, 180, 0, 39, 180, 0, 173]
abbrev dktX2_part_4 : List UInt8 := dkwX2_part_4 ++ dktX2_part_5
def dkwX2_part_3 : List UInt8 := [154, 0, 35, 29, 154, 0, 31, 21, 4, 154, 0, 26, 42, 180, 0, 49, 5, 159, 0, 18, 42, 16, 40]
abbrev dktX2_part_3 : List UInt8 := dkwX2_part_3 ++ dktX2_part_4
def dkwX2_part_2 : List UInt8 := [156, 0, 16, 42, 18, 105, 182, 0, 89, 156, 0, 7, 4, 167, 0, 4, 3, 54, 4, 27, 156, 0, 39, 28]
abbrev dktX2_part_2 : List UInt8 := dkwX2_part_2 ++ dktX2_part_3
def dkwX2_part_1 : List UInt8 := [18, 207, 182, 0, 89, 155, 0, 7, 4, 167, 0, 4, 3, 62, 42, 180, 0, 49, 4, 160, 0, 20, 27]
abbrev dktX2_part_1 : List UInt8 := dkwX2_part_1 ++ dktX2_part_2
def dkwX2_part_0 : List UInt8 := [42, 18, 109, 182, 0, 89, 60, 42, 18, 205, 182, 0, 89, 155, 0, 7, 4, 167, 0, 4, 3, 61, 42]
abbrev dktX2_part_0 : List UInt8 := dkwX2_part_0 ++ dktX2_part_1
theorem dksX2_part_0 : cX2_part.data.toList.drop 0 = dktX2_part_0 := by decide +kernel
theorem dksX2_part_1 : cX2_part.data.toList.drop 23 = dktX2_part_1 := dk_seg dksX2_part_0 23 rfl rfl
theorem dksX2_part_2 : cX2_part.data.toList.drop 46 = dktX2_part_2 := dk_seg dksX2_part_1 23 rfl rfl
theorem dksX2_part_3 : cX2_part.data.toList.drop 70 = dktX2_part_3 := dk_seg dksX2_part_2 24 rfl rfl
theorem dksX2_part_4 : cX2_part.data.toList.drop 93 = dktX2_part_4 := dk_seg dksX2_part_3 23 rfl rfl
theorem dksX2_part_5 : cX2_part.data.toList.drop 117 = dktX2_part_5 := dk_seg dksX2_part_4 24 rfl rfl
theorem dksX2_part_6 : cX2_part.data.toList.drop 141 = dktX2_part_6 := dk_seg dksX2_part_5 24 rfl rfl
theorem dksX2_part_7 : cX2_part.data.toList.drop 165 = dktX2_part_7 := dk_seg dksX2_part_6 24 rfl rfl
theorem dksX2_part_8 : cX2_part.data.toList.drop 189 = dktX2_part_8 := dk_seg dksX2_part_7 24 rfl rfl
theorem dksX2_part_9 : cX2_part.data.toList.drop 211 = dktX2_part_9 := dk_seg dksX2_part_8 22 rfl rfl
theorem dksX2_part_10 : cX2_part.data.toList.drop 235 = dktX2_part_10 := dk_seg dksX2_part_9 24 rfl rfl
theorem dksX2_part_11 : cX2_part.data.toList.drop 259 = dktX2_part_11 := dk_seg dksX2_part_10 24 rfl rfl
theorem dksX2_part_12 : cX2_part.data.toList.drop 283 = dktX2_part_12 := dk_seg dksX2_part_11 24 rfl rfl
theorem dX2_part_0 : decode cX2_part 0 = .ok (.aload_n 0, 1) := dk_42 (dk_at dksX2_part_0 0 rfl rfl)
theorem dX2_part_1 : decode cX2_part 1 = .ok (.ldc 109, 2) := dk_18 109 (dk_at dksX2_part_0 1 rfl rfl)
theorem dX2_part_3 : decode cX2_part 3 = .ok (.invokevirtual 89, 3) := dk_182 0 89 (dk_at dksX2_part_0 3 rfl rfl)
theorem dX2_part_6 : decode cX2_part 6 = .ok (.istore_n 1, 1) := dk_60 (dk_at dksX2_part_0 6 rfl rfl)
theorem dX2_part_7 : decode cX2_part 7 = .ok (.aload_n 0, 1) := dk_42 (dk_at dksX2_part_0 7 rfl rfl)
theorem dX2_part_8 : decode cX2_part 8 = .ok (.ldc 205, 2) := dk_18 205 (dk_at dksX2_part_0 8 rfl rfl)
theorem dX2_part_10 : decode cX2_part 10 = .ok (.invokevirtual 89, 3) := dk_182 0 89 (dk_at dksX2_part_0 10 rfl rfl)
theorem dX2_part_13 : decode cX2_part 13 = .ok (.ifCond .lt 7, 3) := dk_155 0 7 (dk_at dksX2_part_0 13 rfl rfl)
theorem dX2_part_16 : decode cX2_part 16 = .ok (.iconst 1, 1) := dk_4 (dk_at dksX2_part_0 16 rfl rfl)
theorem dX2_part_17 : decode cX2_part 17 = .ok (.goto 4, 3) := dk_167 0 4 (dk_at dksX2_part_0 17 rfl rfl)
theorem dX2_part_20 : decode cX2_part 20 = .ok (.iconst 0, 1) := dk_3 (dk_at dksX2_part_0 20 rfl rfl)
theorem dX2_part_21 : decode cX2_part 21 = .ok (.istore_n 2, 1) := dk_61 (dk_at dksX2_part_0 21 rfl rfl)
theorem dX2_part_22 : decode cX2_part 22 = .ok (.aload_n 0, 1) := dk_42 (dk_at dksX2_part_0 22 rfl rfl)
theorem dX2_part_23 : decode cX2_part 23 = .ok (.ldc 207, 2) := dk_18 207 (dk_at dksX2_part_1 0 rfl rfl)
theorem dX2_part_25 : decode cX2_part 25 = .ok (.invokevirtual 89, 3) := dk_182 0 89 (dk_at dksX2_part_1 2 rfl rfl)
theorem dX2_part_28 : decode cX2_part 28 = .ok (.ifCond .lt 7, 3) := dk_155 0 7 (dk_at dksX2_part_1 5 rfl rfl)
theorem dX2_part_31 : decode cX2_part 31 = .ok (.iconst 1, 1) := dk_4 (dk_at dksX2_part_1 8 rfl rfl)
theorem dX2_part_32 : decode cX2_part 32 = .ok (.goto 4, 3) := dk_167 0 4 (dk_at dksX2_part_1 9 rfl rfl)
theorem dX2_part_35 : decode cX2_part 35 = .ok (.iconst 0, 1) := dk_3 (dk_at dksX2_part_1 12 rfl rfl)
theorem dX2_part_36 : decode cX2_part 36 = .ok (.istore_n 3, 1) := dk_62 (dk_at dksX2_part_1 13 rfl rfl)
theorem dX2_part_37 : decode cX2_part 37 = .ok (.aload_n 0, 1) := dk_42 (dk_at dksX2_part_1 14 rfl rfl)
theorem dX2_part_38 : decode cX2_part 38 = .ok (.getfield 49, 3) := dk_180 0 49 (dk_at dksX2_part_1 15 rfl rfl)
theorem dX2_part_41 : decode cX2_part 41 = .ok (.iconst 1, 1) := dk_4 (dk_at dksX2_part_1 18 rfl rfl)
theorem dX2_part_42 : decode cX2_part 42 = .ok (.if_icmp .ne 20, 3) := dk_160 0 20 (dk_at dksX2_part_1 19 rfl rfl)
theorem dX2_part_45 : decode cX2_part 45 = .ok (.iload_n 1, 1) := dk_27 (dk_at dksX2_part_1 22 rfl rfl)
theorem dX2_part_46 : decode cX2_part 46 = .ok (.ifCond .ge 16, 3) := dk_156 0 16 (dk_at dksX2_part_2 0 rfl rfl)
theorem dX2_part_49 : decode cX2_part 49 = .ok (.aload_n 0, 1) := dk_42 (dk_at dksX2_part_2 3 rfl rfl)
theorem dX2_part_50 : decode cX2_part 50 = .ok (.ldc 105, 2) := dk_18 105 (dk_at dksX2_part_2 4 rfl rfl)
theorem dX2_part_52 : decode cX2_part 52 = .ok (.invokevirtual 89, 3) := dk_182 0 89 (dk_at dksX2_part_2 6 rfl rfl)
theorem dX2_part_55 : decode cX2_part 55 = .ok (.ifCond .ge 7, 3) := dk_156 0 7 (dk_at dksX2_part_2 9 rfl rfl)
theorem dX2_part_58 : decode cX2_part 58 = .ok (.iconst 1, 1) := dk_4 (dk_at dksX2_part_2 12 rfl rfl)
theorem dX2_part_59 : decode cX2_part 59 = .ok (.goto 4, 3) := dk_167 0 4 (dk_at dksX2_part_2 13 rfl rfl)
theorem dX2_part_62 : decode cX2_part 62 = .ok (.iconst 0, 1) := dk_3 (dk_at dksX2_part_2 16 rfl rfl)
theorem dX2_part_63 : decode cX2_part 63 = .ok (.istore 4, 2) := dk_54 4 (dk_at dksX2_part_2 17 rfl rfl)
theorem dX2_part_65 : decode cX2_part 65 = .ok (.iload_n 1, 1) := dk_27 (dk_at dksX2_part_2 19 rfl rfl)
theorem dX2_part_66 : decode cX2_part 66 = .ok (.ifCond .ge 39, 3) := dk_156 0 39 (dk_at dksX2_part_2 20 rfl rfl)
theorem dX2_part_69 : decode cX2_part 69 = .ok (.iload_n 2, 1) := dk_28 (dk_at dksX2_part_2 23 rfl rfl)
theorem dX2_part_70 : decode cX2_part 70 = .ok (.ifCond .ne 35, 3) := dk_154 0 35 (dk_at dksX2_part_3 0 rfl rfl)
theorem dX2_part_73 : decode cX2_part 73 = .ok (.iload_n 3, 1) := dk_29 (dk_at dksX2_part_3 3 rfl rfl)
theorem dX2_part_74 : decode cX2_part 74 = .ok (.ifCond .ne 31, 3) := dk_154 0 31 (dk_at dksX2_part_3 4 rfl rfl)
theorem dX2_part_77 : decode cX2_part 77 = .ok (.iload 4, 2) := dk_21 4 (dk_at dksX2_part_3 7 rfl rfl)
theorem dX2_part_79 : decode cX2_part 79 = .ok (.ifCond .ne 26, 3) := dk_154 0 26 (dk_at dksX2_part_3 9 rfl rfl)
theorem dX2_part_82 : decode cX2_part 82 = .ok (.aload_n 0, 1) := dk_42 (dk_at dksX2_part_3 12 rfl rfl)
theorem dX2_part_83 : decode cX2_part 83 = .ok (.getfield 49, 3) := dk_180 0 49 (dk_at dksX2_part_3 13 rfl rfl)
theorem dX2_part_86 : decode cX2_part 86 = .ok (.iconst 2, 1) := dk_5 (dk_at dksX2_part_3 16 rfl rfl)
theorem dX2_part_87 : decode cX2_part 87 = .ok (.if_icmp .eq 18, 3) := dk_159 0 18 (dk_at dksX2_part_3 17 rfl rfl)
theorem dX2_part_90 : decode cX2_part 90 = .ok (.aload_n 0, 1) := dk_42 (dk_at dksX2_part_3 20 rfl rfl)
theorem dX2_part_91 : decode cX2_part 91 = .ok (.bipush 40, 2) := dk_16 40 (dk_at dksX2_part_3 21 rfl rfl)
theorem dX2_part_93 : decode cX2_part 93 = .ok (.invokevirtual 101, 3) := dk_182 0 101 (dk_at dksX2_part_4 0 rfl rfl)
theorem dX2_part_96 : decode cX2_part 96 = .ok (.ifCond .ne 9, 3) := dk_154 0 9 (dk_at dksX2_part_4 3 rfl rfl)
theorem dX2_part_99 : decode cX2_part 99 = .ok (.aload_n 0, 1) := dk_42 (dk_at dksX2_part_4 6 rfl rfl)
theorem dX2_part_100 : decode cX2_part 100 = .ok (.iconst 1, 1) := dk_4 (dk_at dksX2_part_4 7 rfl rfl)
theorem dX2_part_101 : decode cX2_part 101 = .ok (.invokevirtual 97, 3) := dk_182 0 97 (dk_at dksX2_part_4 8 rfl rfl)
theorem dX2_part_104 : decode cX2_part 104 = .ok (.athrow, 1) := dk_191 (dk_at dksX2_part_4 11 rfl rfl)
theorem dX2_part_105 : decode cX2_part 105 = .ok (.iload 4, 2) := dk_21 4 (dk_at dksX2_part_4 12 rfl rfl)
theorem dX2_part_107 : decode cX2_part 107 = .ok (.ifCond .eq 20, 3) := dk_153 0 20 (dk_at dksX2_part_4 14 rfl rfl)
theorem dX2_part_110 : decode cX2_part 110 = .ok (.aload_n 0, 1) := dk_42 (dk_at dksX2_part_4 17 rfl rfl)
theorem dX2_part_111 : decode cX2_part 111 = .ok (.getfield 39, 3) := dk_180 0 39 (dk_at dksX2_part_4 18 rfl rfl)
theorem dX2_part_114 : decode cX2_part 114 = .ok (.getfield 173, 3) := dk_180 0 173 (dk_at dksX2_part_4 21 rfl rfl)
theorem dX2_part_117 : decode cX2_part 117 = .ok (.aload_n 0, 1) := dk_42 (dk_at dksX2_part_5 0 rfl rfl)
theorem dX2_part_118 : decode cX2_part 118 = .ok (.invokevirtual 170, 3) := dk_182 0 170 (dk_at dksX2_part_5 1 rfl rfl)
theorem dX2_part_121 : decode cX2_part 121 = .ok (.invokevirtual 209, 3) := dk_182 0 209 (dk_at dksX2_part_5 4 rfl rfl)
theorem dX2_part_124 : decode cX2_part 124 = .ok (.goto 4, 3) := dk_167 0 4 (dk_at dksX2_part_5 7 rfl rfl)
theorem dX2_part_127 : decode cX2_part 127 = .ok (.iconst 0, 1) := dk_3 (dk_at dksX2_part_5 10 rfl rfl)
theorem dX2_part_128 : decode cX2_part 128 = .ok (.istore 5, 2) := dk_54 5 (dk_at dksX2_part_5 11 rfl rfl)
theorem dX2_part_130 : decode cX2_part 130 = .ok (.iload 5, 2) := dk_21 5 (dk_at dksX2_part_5 13 rfl rfl)
theorem dX2_part_132 : decode cX2_part 132 = .ok (.ifCond .ge 9, 3) := dk_156 0 9 (dk_at dksX2_part_5 15 rfl rfl)
theorem dX2_part_135 : decode cX2_part 135 = .ok (.aload_n 0, 1) := dk_42 (dk_at dksX2_part_5 18 rfl rfl)
theorem dX2_part_136 : decode cX2_part 136 = .ok (.iconst 2, 1) := dk_5 (dk_at dksX2_part_5 19 rfl rfl)
theorem dX2_part_137 : decode cX2_part 137 = .ok (.invokevirtual 97, 3) := dk_182 0 97 (dk_at dksX2_part_5 20 rfl rfl)
theorem dX2_part_140 : decode cX2_part 140 = .ok (.athrow, 1) := dk_191 (dk_at dksX2_part_5 23 rfl rfl)
theorem dX2_part_141 : decode cX2_part 141 = .ok (.aload_n 0, 1) := dk_42 (dk_at dksX2_part_6 0 rfl rfl)
theorem dX2_part_142 : decode cX2_part 142 = .ok (.getfield 31, 3) := dk_180 0 31 (dk_at dksX2_part_6 1 rfl rfl)
theorem dX2_part_145 : decode cX2_part 145 = .ok (.iconst 4, 1) := dk_7 (dk_at dksX2_part_6 4 rfl rfl)
theorem dX2_part_146 : decode cX2_part 146 = .ok (.if_icmp .ne 9, 3) := dk_160 0 9 (dk_at dksX2_part_6 5 rfl rfl)
theorem dX2_part_149 : decode cX2_part 149 = .ok (.aload_n 0, 1) := dk_42 (dk_at dksX2_part_6 8 rfl rfl)
theorem dX2_part_150 : decode cX2_part 150 = .ok (.iconst 5, 1) := dk_8 (dk_at dksX2_part_6 9 rfl rfl)
theorem dX2_part_151 : decode cX2_part 151 = .ok (.invokevirtual 97, 3) := dk_182 0 97 (dk_at dksX2_part_6 10 rfl rfl)
theorem dX2_part_154 : decode cX2_part 154 = .ok (.athrow, 1) := dk_191 (dk_at dksX2_part_6 13 rfl rfl)
theorem dX2_part_155 : decode cX2_part 155 = .ok (.aload_n 0, 1) := dk_42 (dk_at dksX2_part_6 14 rfl rfl)
theorem dX2_part_156 : decode cX2_part 156 = .ok (.getfield 63, 3) := dk_180 0 63 (dk_at dksX2_part_6 15 rfl rfl)
theorem dX2_part_159 : decode cX2_part 159 = .ok (.istore 6, 2) := dk_54 6 (dk_at dksX2_part_6 18 rfl rfl)
theorem dX2_part_161 : decode cX2_part 161 = .ok (.aload_n 0, 1) := dk_42 (dk_at dksX2_part_6 20 rfl rfl)
theorem dX2_part_162 : decode cX2_part 162 = .ok (.getfield 49, 3) := dk_180 0 49 (dk_at dksX2_part_6 21 rfl rfl)
theorem dX2_part_165 : decode cX2_part 165 = .ok (.iconst 2, 1) := dk_5 (dk_at dksX2_part_7 0 rfl rfl)
theorem dX2_part_166 : decode cX2_part 166 = .ok (.if_icmp .ne 7, 3) := dk_160 0 7 (dk_at dksX2_part_7 1 rfl rfl)
theorem dX2_part_169 : decode cX2_part 169 = .ok (.iconst 1, 1) := dk_4 (dk_at dksX2_part_7 4 rfl rfl)
theorem dX2_part_170 : decode cX2_part 170 = .ok (.goto 4, 3) := dk_167 0 4 (dk_at dksX2_part_7 5 rfl rfl)
theorem dX2_part_173 : decode cX2_part 173 = .ok (.iconst 0, 1) := dk_3 (dk_at dksX2_part_7 8 rfl rfl)
theorem dX2_part_174 : decode cX2_part 174 = .ok (.istore 7, 2) := dk_54 7 (dk_at dksX2_part_7 9 rfl rfl)
theorem dX2_part_176 : decode cX2_part 176 = .ok (.aload_n 0, 1) := dk_42 (dk_at dksX2_part_7 11 rfl rfl)
theorem dX2_part_177 : decode cX2_part 177 = .ok (.invokevirtual 43, 3) := dk_182 0 43 (dk_at dksX2_part_7 12 rfl rfl)
theorem dX2_part_180 : decode cX2_part 180 = .ok (.iload_n 3, 1) := dk_29 (dk_at dksX2_part_7 15 rfl rfl)
theorem dX2_part_181 : decode cX2_part 181 = .ok (.ifCond .eq 18, 3) := dk_153 0 18 (dk_at dksX2_part_7 16 rfl rfl)
theorem dX2_part_184 : decode cX2_part 184 = .ok (.new 212, 3) := dk_187 0 212 (dk_at dksX2_part_7 19 rfl rfl)
theorem dX2_part_187 : decode cX2_part 187 = .ok (.dup, 1) := dk_89 (dk_at dksX2_part_7 22 rfl rfl)
theorem dX2_part_188 : decode cX2_part 188 = .ok (.aload_n 0, 1) := dk_42 (dk_at dksX2_part_7 23 rfl rfl)
theorem dX2_part_189 : decode cX2_part 189 = .ok (.iconst 0, 1) := dk_3 (dk_at dksX2_part_8 0 rfl rfl)
theorem dX2_part_190 : decode cX2_part 190 = .ok (.bipush 11, 2) := dk_16 11 (dk_at dksX2_part_8 1 rfl rfl)
theorem dX2_part_192 : decode cX2_part 192 = .ok (.invokevirtual 148, 3) := dk_182 0 148 (dk_at dksX2_part_8 3 rfl rfl)
theorem dX2_part_195 : decode cX2_part 195 = .ok (.invokespecial 214, 3) := dk_183 0 214 (dk_at dksX2_part_8 6 rfl rfl)
theorem dX2_part_198 : decode cX2_part 198 = .ok (.areturn, 1) := dk_176 (dk_at dksX2_part_8 9 rfl rfl)
theorem dX2_part_199 : decode cX2_part 199 = .ok (.iload_n 1, 1) := dk_27 (dk_at dksX2_part_8 10 rfl rfl)
theorem dX2_part_200 : decode cX2_part 200 = .ok (.ifCond .lt 15, 3) := dk_155 0 15 (dk_at dksX2_part_8 11 rfl rfl)
theorem dX2_part_203 : decode cX2_part 203 = .ok (.new 212, 3) := dk_187 0 212 (dk_at dksX2_part_8 14 rfl rfl)
theorem dX2_part_206 : decode cX2_part 206 = .ok (.dup, 1) := dk_89 (dk_at dksX2_part_8 17 rfl rfl)
theorem dX2_part_207 : decode cX2_part 207 = .ok (.bipush 12, 2) := dk_16 12 (dk_at dksX2_part_8 18 rfl rfl)
theorem dX2_part_209 : decode cX2_part 209 = .ok (.iload_n 1, 1) := dk_27 (dk_at dksX2_part_8 20 rfl rfl)
theorem dX2_part_210 : decode cX2_part 210 = .ok (.iadd, 1) := dk_96 (dk_at dksX2_part_8 21 rfl rfl)
theorem dX2_part_211 : decode cX2_part 211 = .ok (.invokespecial 214, 3) := dk_183 0 214 (dk_at dksX2_part_9 0 rfl rfl)
theorem dX2_part_214 : decode cX2_part 214 = .ok (.areturn, 1) := dk_176 (dk_at dksX2_part_9 3 rfl rfl)
theorem dX2_part_215 : decode cX2_part 215 = .ok (.iload 4, 2) := dk_21 4 (dk_at dksX2_part_9 4 rfl rfl)
theorem dX2_part_217 : decode cX2_part 217 = .ok (.ifCond .eq 13, 3) := dk_153 0 13 (dk_at dksX2_part_9 6 rfl rfl)
theorem dX2_part_220 : decode cX2_part 220 = .ok (.new 215, 3) := dk_187 0 215 (dk_at dksX2_part_9 9 rfl rfl)
theorem dX2_part_223 : decode cX2_part 223 = .ok (.dup, 1) := dk_89 (dk_at dksX2_part_9 12 rfl rfl)
theorem dX2_part_224 : decode cX2_part 224 = .ok (.iload 5, 2) := dk_21 5 (dk_at dksX2_part_9 13 rfl rfl)
theorem dX2_part_226 : decode cX2_part 226 = .ok (.invokespecial 217, 3) := dk_183 0 217 (dk_at dksX2_part_9 15 rfl rfl)
theorem dX2_part_229 : decode cX2_part 229 = .ok (.areturn, 1) := dk_176 (dk_at dksX2_part_9 18 rfl rfl)
theorem dX2_part_230 : decode cX2_part 230 = .ok (.iload 7, 2) := dk_21 7 (dk_at dksX2_part_9 19 rfl rfl)
theorem dX2_part_232 : decode cX2_part 232 = .ok (.ifCond .eq 13, 3) := dk_153 0 13 (dk_at dksX2_part_9 21 rfl rfl)
theorem dX2_part_235 : decode cX2_part 235 = .ok (.new 218, 3) := dk_187 0 218 (dk_at dksX2_part_10 0 rfl rfl)
theorem dX2_part_238 : decode cX2_part 238 = .ok (.dup, 1) := dk_89 (dk_at dksX2_part_10 3 rfl rfl)
theorem dX2_part_239 : decode cX2_part 239 = .ok (.iload 6, 2) := dk_21 6 (dk_at dksX2_part_10 4 rfl rfl)
theorem dX2_part_241 : decode cX2_part 241 = .ok (.invokespecial 220, 3) := dk_183 0 220 (dk_at dksX2_part_10 6 rfl rfl)
theorem dX2_part_244 : decode cX2_part 244 = .ok (.areturn, 1) := dk_176 (dk_at dksX2_part_10 9 rfl rfl)
theorem dX2_part_245 : decode cX2_part 245 = .ok (.aload_n 0, 1) := dk_42 (dk_at dksX2_part_10 10 rfl rfl)
theorem dX2_part_246 : decode cX2_part 246 = .ok (.dup, 1) := dk_89 (dk_at dksX2_part_10 11 rfl rfl)
theorem dX2_part_247 : decode cX2_part 247 = .ok (.getfield 31, 3) := dk_180 0 31 (dk_at dksX2_part_10 12 rfl rfl)
theorem dX2_part_250 : decode cX2_part 250 = .ok (.iconst 1, 1) := dk_4 (dk_at dksX2_part_10 15 rfl rfl)
theorem dX2_part_251 : decode cX2_part 251 = .ok (.iadd, 1) := dk_96 (dk_at dksX2_part_10 16 rfl rfl)
theorem dX2_part_252 : decode cX2_part 252 = .ok (.putfield 31, 3) := dk_181 0 31 (dk_at dksX2_part_10 17 rfl rfl)
theorem dX2_part_255 : decode cX2_part 255 = .ok (.iload_n 2, 1) := dk_28 (dk_at dksX2_part_10 20 rfl rfl)
theorem dX2_part_256 : decode cX2_part 256 = .ok (.ifCond .eq 17, 3) := dk_153 0 17 (dk_at dksX2_part_10 21 rfl rfl)
theorem dX2_part_259 : decode cX2_part 259 = .ok (.new 221, 3) := dk_187 0 221 (dk_at dksX2_part_11 0 rfl rfl)
theorem dX2_part_262 : decode cX2_part 262 = .ok (.dup, 1) := dk_89 (dk_at dksX2_part_11 3 rfl rfl)
theorem dX2_part_263 : decode cX2_part 263 = .ok (.aload_n 0, 1) := dk_42 (dk_at dksX2_part_11 4 rfl rfl)
theorem dX2_part_264 : decode cX2_part 264 = .ok (.invokevirtual 202, 3) := dk_182 0 202 (dk_at dksX2_part_11 5 rfl rfl)
theorem dX2_part_267 : decode cX2_part 267 = .ok (.invokespecial 223, 3) := dk_183 0 223 (dk_at dksX2_part_11 8 rfl rfl)
theorem dX2_part_270 : decode cX2_part 270 = .ok (.goto 7, 3) := dk_167 0 7 (dk_at dksX2_part_11 11 rfl rfl)
theorem dX2_part_273 : decode cX2_part 273 = .ok (.aload_n 0, 1) := dk_42 (dk_at dksX2_part_11 14 rfl rfl)
theorem dX2_part_274 : decode cX2_part 274 = .ok (.invokevirtual 135, 3) := dk_182 0 135 (dk_at dksX2_part_11 15 rfl rfl)
theorem dX2_part_277 : decode cX2_part 277 = .ok (.astore 8, 2) := dk_58 8 (dk_at dksX2_part_11 18 rfl rfl)
theorem dX2_part_279 : decode cX2_part 279 = .ok (.iload_n 2, 1) := dk_28 (dk_at dksX2_part_11 20 rfl rfl)
theorem dX2_part_280 : decode cX2_part 280 = .ok (.ifCond .ne 9, 3) := dk_154 0 9 (dk_at dksX2_part_11 21 rfl rfl)
theorem dX2_part_283 : decode cX2_part 283 = .ok (.aload_n 0, 1) := dk_42 (dk_at dksX2_part_12 0 rfl rfl)
theorem dX2_part_284 : decode cX2_part 284 = .ok (.bipush 41, 2) := dk_16 41 (dk_at dksX2_part_12 1 rfl rfl)
theorem dX2_part_286 : decode cX2_part 286 = .ok (.invokevirtual 167, 3) := dk_182 0 167 (dk_at dksX2_part_12 3 rfl rfl)
theorem dX2_part_289 : decode cX2_part 289 = .ok (.aload_n 0, 1) := dk_42 (dk_at dksX2_part_12 6 rfl rfl)
theorem dX2_part_290 : decode cX2_part 290 = .ok (.dup, 1) := dk_89 (dk_at dksX2_part_12 7 rfl rfl)
theorem dX2_part_291 : decode cX2_part 291 = .ok (.getfield 31, 3) := dk_180 0 31 (dk_at dksX2_part_12 8 rfl rfl)
theorem dX2_part_294 : decode cX2_part 294 = .ok (.iconst 1, 1) := dk_4 (dk_at dksX2_part_12 11 rfl rfl)
theorem dX2_part_295 : decode cX2_part 295 = .ok (.isub, 1) := dk_100 (dk_at dksX2_part_12 12 rfl rfl)
theorem dX2_part_296 : decode cX2_part 296 = .ok (.putfield 31, 3) := dk_181 0 31 (dk_at dksX2_part_12 13 rfl rfl)
theorem dX2_part_299 : decode cX2_part 299 = .ok (.aload 8, 2) := dk_25 8 (dk_at dksX2_part_12 16 rfl rfl)
theorem dX2_part_301 : decode cX2_part 301 = .ok (.areturn, 1) := dk_176 (dk_at dksX2_part_12 18 rfl rfl)
abbrev cX2_number : ByteArray := prog_15_method_13_code
def yX2_number : MethodName := ⟨RX2, "number", "(II)I"⟩
def dkwX2_number_1 : List UInt8 := [180, 0, 63, 28, 164, 0, 9, 42, 7, 182, 0, 97, 191, 42, 180, 0, 63, 62, 42, 182, 0, 43, 29, 172]
abbrev dktX2_number_1 : List UInt8 := dkwX2_number_1 ++ []
def dkwX2_number_0 : List UInt8 := [42, 180, 0, 49, 5, 159, 0, 9, 42, 4, 182, 0, 97, 191, 42, 180, 0, 63, 27, 161, 0, 11, 42]
abbrev dktX2_number_0 : List UInt8 := dkwX2_number_0 ++ dktX2_number_1
theorem dksX2_number_0 : cX2_number.data.toList.drop 0 = dktX2_number_0 := by decide +kernel
theorem dksX2_number_1 : cX2_number.data.toList.drop 23 = dktX2_number_1 := dk_seg dksX2_number_0 23 rfl rfl
theorem dX2_number_0 : decode cX2_number 0 = .ok (.aload_n 0, 1) := dk_42 (dk_at dksX2_number_0 0 rfl rfl)
theorem dX2_number_1 : decode cX2_number 1 = .ok (.getfield 49, 3) := dk_180 0 49 (dk_at dksX2_number_0 1 rfl rfl)
theorem dX2_number_4 : decode cX2_number 4 = .ok (.iconst 2, 1) := dk_5 (dk_at dksX2_number_0 4 rfl rfl)
theorem dX2_number_5 : decode cX2_number 5 = .ok (.if_icmp .eq 9, 3) := dk_159 0 9 (dk_at dksX2_number_0 5 rfl rfl)
theorem dX2_number_8 : decode cX2_number 8 = .ok (.aload_n 0, 1) := dk_42 (dk_at dksX2_number_0 8 rfl rfl)
theorem dX2_number_9 : decode cX2_number 9 = .ok (.iconst 1, 1) := dk_4 (dk_at dksX2_number_0 9 rfl rfl)
theorem dX2_number_10 : decode cX2_number 10 = .ok (.invokevirtual 97, 3) := dk_182 0 97 (dk_at dksX2_number_0 10 rfl rfl)
theorem dX2_number_13 : decode cX2_number 13 = .ok (.athrow, 1) := dk_191 (dk_at dksX2_number_0 13 rfl rfl)
theorem dX2_number_14 : decode cX2_number 14 = .ok (.aload_n 0, 1) := dk_42 (dk_at dksX2_number_0 14 rfl rfl)
theorem dX2_number_15 : decode cX2_number 15 = .ok (.getfield 63, 3) := dk_180 0 63 (dk_at dksX2_number_0 15 rfl rfl)
theorem dX2_number_18 : decode cX2_number 18 = .ok (.iload_n 1, 1) := dk_27 (dk_at dksX2_number_0 18 rfl rfl)
theorem dX2_number_19 : decode cX2_number 19 = .ok (.if_icmp .lt 11, 3) := dk_161 0 11 (dk_at dksX2_number_0 19 rfl rfl)
theorem dX2_number_22 : decode cX2_number 22 = .ok (.aload_n 0, 1) := dk_42 (dk_at dksX2_number_0 22 rfl rfl)
theorem dX2_number_23 : decode cX2_number 23 = .ok (.getfield 63, 3) := dk_180 0 63 (dk_at dksX2_number_1 0 rfl rfl)
theorem dX2_number_26 : decode cX2_number 26 = .ok (.iload_n 2, 1) := dk_28 (dk_at dksX2_number_1 3 rfl rfl)
theorem dX2_number_27 : decode cX2_number 27 = .ok (.if_icmp .le 9, 3) := dk_164 0 9 (dk_at dksX2_number_1 4 rfl rfl)
theorem dX2_number_30 : decode cX2_number 30 = .ok (.aload_n 0, 1) := dk_42 (dk_at dksX2_number_1 7 rfl rfl)
theorem dX2_number_31 : decode cX2_number 31 = .ok (.iconst 4, 1) := dk_7 (dk_at dksX2_number_1 8 rfl rfl)
theorem dX2_number_32 : decode cX2_number 32 = .ok (.invokevirtual 97, 3) := dk_182 0 97 (dk_at dksX2_number_1 9 rfl rfl)
theorem dX2_number_35 : decode cX2_number 35 = .ok (.athrow, 1) := dk_191 (dk_at dksX2_number_1 12 rfl rfl)
theorem dX2_number_36 : decode cX2_number 36 = .ok (.aload_n 0, 1) := dk_42 (dk_at dksX2_number_1 13 rfl rfl)
theorem dX2_number_37 : decode cX2_number 37 = .ok (.getfield 63, 3) := dk_180 0 63 (dk_at dksX2_number_1 14 rfl rfl)
theorem dX2_number_40 : decode cX2_number 40 = .ok (.istore_n 3, 1) := dk_62 (dk_at dksX2_number_1 17 rfl rfl)
theorem dX2_number_41 : decode cX2_number 41 = .ok (.aload_n 0, 1) := dk_42 (dk_at dksX2_number_1 18 rfl rfl)
theorem dX2_number_42 : decode cX2_number 42 = .ok (.invokevirtual 43, 3) := dk_182 0 43 (dk_at dksX2_number_1 19 rfl rfl)
theorem dX2_number_45 : decode cX2_number 45 = .ok (.iload_n 3, 1) := dk_29 (dk_at dksX2_number_1 22 rfl rfl)
theorem dX2_number_46 : decode cX2_number 46 = .ok (.ireturn, 1) := dk_172 (dk_at dksX2_number_1 23 rfl rfl)
abbrev cX2_need_2 : ByteArray := prog_15_method_10_code
def yX2_need_2 : MethodName := ⟨RX2, "need", "(Ljava/lang/String;)V"⟩
def dkwX2_need_2_0 : List UInt8 := [42, 43, 182, 0, 93, 154, 0, 9, 42, 4, 182, 0, 97, 191, 177]
abbrev dktX2_need_2_0 : List UInt8 := dkwX2_need_2_0 ++ []
theorem dksX2_need_2_0 : cX2_need_2.data.toList.drop 0 = dktX2_need_2_0 := by decide +kernel
theorem dX2_need_2_0 : decode cX2_need_2 0 = .ok (.aload_n 0, 1) := dk_42 (dk_at dksX2_need_2_0 0 rfl rfl)
theorem dX2_need_2_1 : decode cX2_need_2 1 = .ok (.aload_n 1, 1) := dk_43 (dk_at dksX2_need_2_0 1 rfl rfl)
theorem dX2_need_2_2 : decode cX2_need_2 2 = .ok (.invokevirtual 93, 3) := dk_182 0 93 (dk_at dksX2_need_2_0 2 rfl rfl)
theorem dX2_need_2_5 : decode cX2_need_2 5 = .ok (.ifCond .ne 9, 3) := dk_154 0 9 (dk_at dksX2_need_2_0 5 rfl rfl)
theorem dX2_need_2_8 : decode cX2_need_2 8 = .ok (.aload_n 0, 1) := dk_42 (dk_at dksX2_need_2_0 8 rfl rfl)
theorem dX2_need_2_9 : decode cX2_need_2 9 = .ok (.iconst 1, 1) := dk_4 (dk_at dksX2_need_2_0 9 rfl rfl)
theorem dX2_need_2_10 : decode cX2_need_2 10 = .ok (.invokevirtual 97, 3) := dk_182 0 97 (dk_at dksX2_need_2_0 10 rfl rfl)
theorem dX2_need_2_13 : decode cX2_need_2 13 = .ok (.athrow, 1) := dk_191 (dk_at dksX2_need_2_0 13 rfl rfl)
theorem dX2_need_2_14 : decode cX2_need_2 14 = .ok (.return_, 1) := dk_177 (dk_at dksX2_need_2_0 14 rfl rfl)
abbrev cX2_meets : ByteArray := prog_15_method_9_code
def yX2_meets : MethodName := ⟨RX2, "meets", "(Ljava/lang/String;)Z"⟩
def dkwX2_meets_0 : List UInt8 := [42, 43, 182, 0, 89, 156, 0, 5, 3, 172, 42, 182, 0, 43, 4, 172]
abbrev dktX2_meets_0 : List UInt8 := dkwX2_meets_0 ++ []
theorem dksX2_meets_0 : cX2_meets.data.toList.drop 0 = dktX2_meets_0 := by decide +kernel
theorem dX2_meets_0 : decode cX2_meets 0 = .ok (.aload_n 0, 1) := dk_42 (dk_at dksX2_meets_0 0 rfl rfl)
theorem dX2_meets_1 : decode cX2_meets 1 = .ok (.aload_n 1, 1) := dk_43 (dk_at dksX2_meets_0 1 rfl rfl)
theorem dX2_meets_2 : decode cX2_meets 2 = .ok (.invokevirtual 89, 3) := dk_182 0 89 (dk_at dksX2_meets_0 2 rfl rfl)
theorem dX2_meets_5 : decode cX2_meets 5 = .ok (.ifCond .ge 5, 3) := dk_156 0 5 (dk_at dksX2_meets_0 5 rfl rfl)
theorem dX2_meets_8 : decode cX2_meets 8 = .ok (.iconst 0, 1) := dk_3 (dk_at dksX2_meets_0 8 rfl rfl)
theorem dX2_meets_9 : decode cX2_meets 9 = .ok (.ireturn, 1) := dk_172 (dk_at dksX2_meets_0 9 rfl rfl)
theorem dX2_meets_10 : decode cX2_meets 10 = .ok (.aload_n 0, 1) := dk_42 (dk_at dksX2_meets_0 10 rfl rfl)
theorem dX2_meets_11 : decode cX2_meets 11 = .ok (.invokevirtual 43, 3) := dk_182 0 43 (dk_at dksX2_meets_0 11 rfl rfl)
theorem dX2_meets_14 : decode cX2_meets 14 = .ok (.iconst 1, 1) := dk_4 (dk_at dksX2_meets_0 14 rfl rfl)
theorem dX2_meets_15 : decode cX2_meets 15 = .ok (.ireturn, 1) := dk_172 (dk_at dksX2_meets_0 15 rfl rfl)
theorem q98 : (Jvm.Cond.initialized "SecretBuyers$Reader") ∈ lw_all := lw_g (lw_at lw_m1 5 rfl) rfl
theorem q171 : (Jvm.Cond.instantiable "SecretBuyers$Reader" (11 : Nat)) ∈ lw_all := lw_g (lw_at lw_m1 78 rfl) rfl
theorem q173 : (Jvm.Cond.instanceMethod ({ cls := "SecretBuyers$Reader", name := "<init>", desc := "()V" } : Jvm.MethodName)) ∈ lw_all := lw_g (lw_at lw_m1 80 rfl) rfl
theorem q174 : (Jvm.Cond.code ({ cls := "SecretBuyers$Reader", name := "<init>", desc := "()V" } : Jvm.MethodName) prog_15_method_1_code (1 : Nat) (Option.none : Option Jvm.ClassFile.FieldType)) ∈ lw_all := lw_g (lw_at lw_m1 81 rfl) rfl
theorem q175 : (Jvm.Cond.methodLink "SecretBuyers$Reader" (3 : Nat) ({ cls := "java/lang/Object", name := "<init>", desc := "()V" } : Jvm.MethodName)) ∈ lw_all := lw_g (lw_at lw_m1 82 rfl) rfl
theorem q176 : (Jvm.Cond.fieldLink "SecretBuyers$Reader" (21 : Nat) "SecretBuyers$Reader" "text" "[B") ∈ lw_all := lw_g (lw_at lw_m1 83 rfl) rfl
theorem q177 : (Jvm.Cond.fieldLink "SecretBuyers$Reader" (25 : Nat) "SecretBuyers$Reader" "size" "I") ∈ lw_all := lw_g (lw_at lw_m1 84 rfl) rfl
theorem q178 : (Jvm.Cond.fieldLink "SecretBuyers$Reader" (28 : Nat) "SecretBuyers$Reader" "to" "I") ∈ lw_all := lw_g (lw_at lw_m1 85 rfl) rfl
theorem q179 : (Jvm.Cond.fieldLink "SecretBuyers$Reader" (49 : Nat) "SecretBuyers$Reader" "kind" "I") ∈ lw_all := lw_g (lw_at lw_m1 86 rfl) rfl
theorem q180 : (Jvm.Cond.fieldLink "SecretBuyers$Reader" (46 : Nat) "SecretBuyers$Reader" "from" "I") ∈ lw_all := lw_g (lw_at lw_m1 87 rfl) rfl
theorem q181 : (Jvm.Cond.fieldLink "SecretBuyers$Reader" (63 : Nat) "SecretBuyers$Reader" "value" "I") ∈ lw_all := lw_g (lw_at lw_m1 88 rfl) rfl
theorem q182 : (Jvm.Cond.fieldLink "SecretBuyers$Reader" (31 : Nat) "SecretBuyers$Reader" "within" "I") ∈ lw_all := lw_g (lw_at lw_m1 89 rfl) rfl
theorem q183 : (Jvm.Cond.fieldLink "SecretBuyers$Reader" (39 : Nat) "SecretBuyers$Reader" "brief" "LSecretBuyers$Brief;") ∈ lw_all := lw_g (lw_at lw_m1 90 rfl) rfl
theorem q184 : (Jvm.Cond.fieldLink "SecretBuyers$Reader" (9 : Nat) "SecretBuyers$Reader" "day" "I") ∈ lw_all := lw_g (lw_at lw_m1 91 rfl) rfl
theorem q185 : (Jvm.Cond.fieldLink "SecretBuyers$Reader" (15 : Nat) "SecretBuyers$Reader" "chain" "I") ∈ lw_all := lw_g (lw_at lw_m1 92 rfl) rfl
theorem q186 : (Jvm.Cond.fieldLink "SecretBuyers$Reader" (18 : Nat) "SecretBuyers$Reader" "from0" "I") ∈ lw_all := lw_g (lw_at lw_m1 93 rfl) rfl
theorem q187 : (Jvm.Cond.lays "SecretBuyers$Reader" "SecretBuyers$Reader" "text" "[B") ∈ lw_all := lw_g (lw_at lw_m1 94 rfl) rfl
theorem q188 : (Jvm.Cond.soleField "SecretBuyers$Reader" "text") ∈ lw_all := lw_g (lw_at lw_m1 95 rfl) rfl
theorem q189 : (Jvm.Cond.lays "SecretBuyers$Reader" "SecretBuyers$Reader" "size" "I") ∈ lw_all := lw_g (lw_at lw_m1 96 rfl) rfl
theorem q190 : (Jvm.Cond.soleField "SecretBuyers$Reader" "size") ∈ lw_all := lw_g (lw_at lw_m1 97 rfl) rfl
theorem q191 : (Jvm.Cond.lays "SecretBuyers$Reader" "SecretBuyers$Reader" "to" "I") ∈ lw_all := lw_g (lw_at lw_m1 98 rfl) rfl
theorem q192 : (Jvm.Cond.soleField "SecretBuyers$Reader" "to") ∈ lw_all := lw_g (lw_at lw_m1 99 rfl) rfl
theorem q193 : (Jvm.Cond.lays "SecretBuyers$Reader" "SecretBuyers$Reader" "kind" "I") ∈ lw_all := lw_g (lw_at lw_m1 100 rfl) rfl
theorem q194 : (Jvm.Cond.soleField "SecretBuyers$Reader" "kind") ∈ lw_all := lw_g (lw_at lw_m1 101 rfl) rfl
theorem q195 : (Jvm.Cond.lays "SecretBuyers$Reader" "SecretBuyers$Reader" "from" "I") ∈ lw_all := lw_g (lw_at lw_m1 102 rfl) rfl
theorem q196 : (Jvm.Cond.soleField "SecretBuyers$Reader" "from") ∈ lw_all := lw_g (lw_at lw_m1 103 rfl) rfl
theorem q197 : (Jvm.Cond.lays "SecretBuyers$Reader" "SecretBuyers$Reader" "value" "I") ∈ lw_all := lw_g (lw_at lw_m1 104 rfl) rfl
theorem q198 : (Jvm.Cond.soleField "SecretBuyers$Reader" "value") ∈ lw_all := lw_g (lw_at lw_m1 105 rfl) rfl
theorem q199 : (Jvm.Cond.lays "SecretBuyers$Reader" "SecretBuyers$Reader" "within" "I") ∈ lw_all := lw_g (lw_at lw_m1 106 rfl) rfl
theorem q200 : (Jvm.Cond.soleField "SecretBuyers$Reader" "within") ∈ lw_all := lw_g (lw_at lw_m1 107 rfl) rfl
theorem q201 : (Jvm.Cond.lays "SecretBuyers$Reader" "SecretBuyers$Reader" "brief" "LSecretBuyers$Brief;") ∈ lw_all := lw_g (lw_at lw_m1 108 rfl) rfl
theorem q202 : (Jvm.Cond.soleField "SecretBuyers$Reader" "brief") ∈ lw_all := lw_g (lw_at lw_m1 109 rfl) rfl
theorem q203 : (Jvm.Cond.lays "SecretBuyers$Reader" "SecretBuyers$Reader" "day" "I") ∈ lw_all := lw_g (lw_at lw_m1 110 rfl) rfl
theorem q204 : (Jvm.Cond.soleField "SecretBuyers$Reader" "day") ∈ lw_all := lw_g (lw_at lw_m1 111 rfl) rfl
theorem q205 : (Jvm.Cond.lays "SecretBuyers$Reader" "SecretBuyers$Reader" "chain" "I") ∈ lw_all := lw_g (lw_at lw_m1 112 rfl) rfl
theorem q206 : (Jvm.Cond.soleField "SecretBuyers$Reader" "chain") ∈ lw_all := lw_g (lw_at lw_m1 113 rfl) rfl
theorem q207 : (Jvm.Cond.lays "SecretBuyers$Reader" "SecretBuyers$Reader" "from0" "I") ∈ lw_all := lw_g (lw_at lw_m1 114 rfl) rfl
theorem q208 : (Jvm.Cond.soleField "SecretBuyers$Reader" "from0") ∈ lw_all := lw_g (lw_at lw_m1 115 rfl) rfl
theorem q209 : (Jvm.Cond.superclass "SecretBuyers$Reader" "java/lang/Object") ∈ lw_all := lw_g (lw_at lw_m1 116 rfl) rfl
theorem q435 : (Jvm.Cond.selects "SecretBuyers$Reader" ({ cls := "java/lang/Object", name := "getClass", desc := "()Ljava/lang/Class;" } : Jvm.MethodName) ({ cls := "java/lang/Object", name := "getClass", desc := "()Ljava/lang/Class;" } : Jvm.MethodName)) ∈ lw_all := lw_g (lw_at lw_m2 102 rfl) rfl
theorem q604 : (Jvm.Cond.instanceMethod ({ cls := "SecretBuyers$Reader", name := "begin", desc := "([BIIII)V" } : Jvm.MethodName)) ∈ lw_all := lw_g (lw_at lw_m3 31 rfl) rfl
theorem q605 : (Jvm.Cond.selects "SecretBuyers$Reader" ({ cls := "SecretBuyers$Reader", name := "begin", desc := "([BIIII)V" } : Jvm.MethodName) ({ cls := "SecretBuyers$Reader", name := "begin", desc := "([BIIII)V" } : Jvm.MethodName)) ∈ lw_all := lw_g (lw_at lw_m3 32 rfl) rfl
theorem q606 : (Jvm.Cond.code ({ cls := "SecretBuyers$Reader", name := "begin", desc := "([BIIII)V" } : Jvm.MethodName) prog_15_method_2_code (6 : Nat) (Option.none : Option Jvm.ClassFile.FieldType)) ∈ lw_all := lw_g (lw_at lw_m3 33 rfl) rfl
theorem q607 : (Jvm.Cond.classLink "SecretBuyers$Reader" (34 : Nat) "SecretBuyers$Brief") ∈ lw_all := lw_g (lw_at lw_m3 34 rfl) rfl
theorem q609 : (Jvm.Cond.methodLink "SecretBuyers$Reader" (36 : Nat) ({ cls := "SecretBuyers$Brief", name := "<init>", desc := "(III)V" } : Jvm.MethodName)) ∈ lw_all := lw_g (lw_at lw_m3 36 rfl) rfl
theorem q622 : (Jvm.Cond.fieldLinkNest "SecretBuyers$Reader" (129 : Nat) "SecretBuyers$Brief" "lines" "Ljava/util/ArrayList;" "SecretBuyers") ∈ lw_tbl := lw_at lw_m3 49 rfl
theorem q624 : (Jvm.Cond.fieldLinkNest "SecretBuyers$Reader" (173 : Nat) "SecretBuyers$Brief" "names" "Ljava/util/ArrayList;" "SecretBuyers") ∈ lw_tbl := lw_at lw_m3 51 rfl
theorem q626 : (Jvm.Cond.fieldLinkNest "SecretBuyers$Reader" (181 : Nat) "SecretBuyers$Brief" "named" "Ljava/util/ArrayList;" "SecretBuyers") ∈ lw_tbl := lw_at lw_m3 53 rfl
theorem q640 : (Jvm.Cond.methodLink "SecretBuyers$Reader" (43 : Nat) ({ cls := "SecretBuyers$Reader", name := "next", desc := "()V" } : Jvm.MethodName)) ∈ lw_all := lw_g (lw_at lw_m3 67 rfl) rfl
theorem q641 : (Jvm.Cond.privateMethod ({ cls := "SecretBuyers$Reader", name := "next", desc := "()V" } : Jvm.MethodName)) ∈ lw_tbl := lw_at lw_m3 68 rfl
theorem q642 : (Jvm.Cond.instanceMethod ({ cls := "SecretBuyers$Reader", name := "next", desc := "()V" } : Jvm.MethodName)) ∈ lw_all := lw_g (lw_at lw_m3 69 rfl) rfl
theorem q643 : (Jvm.Cond.code ({ cls := "SecretBuyers$Reader", name := "next", desc := "()V" } : Jvm.MethodName) prog_15_method_6_code (1 : Nat) (Option.none : Option Jvm.ClassFile.FieldType)) ∈ lw_all := lw_g (lw_at lw_m3 70 rfl) rfl
theorem q644 : (Jvm.Cond.methodLink "SecretBuyers$Reader" (52 : Nat) ({ cls := "SecretBuyers$Reader", name := "at", desc := "(I)I" } : Jvm.MethodName)) ∈ lw_all := lw_g (lw_at lw_m3 71 rfl) rfl
theorem q645 : (Jvm.Cond.privateMethod ({ cls := "SecretBuyers$Reader", name := "at", desc := "(I)I" } : Jvm.MethodName)) ∈ lw_tbl := lw_at lw_m3 72 rfl
theorem q646 : (Jvm.Cond.instanceMethod ({ cls := "SecretBuyers$Reader", name := "at", desc := "(I)I" } : Jvm.MethodName)) ∈ lw_all := lw_g (lw_at lw_m3 73 rfl) rfl
theorem q647 : (Jvm.Cond.code ({ cls := "SecretBuyers$Reader", name := "at", desc := "(I)I" } : Jvm.MethodName) prog_15_method_3_code (2 : Nat) (Option.some Jvm.ClassFile.FieldType.int)) ∈ lw_all := lw_g (lw_at lw_m3 74 rfl) rfl
theorem q648 : (Jvm.Cond.methodLink "SecretBuyers$Reader" (56 : Nat) ({ cls := "SecretBuyers$Reader", name := "isLetter", desc := "(I)Z" } : Jvm.MethodName)) ∈ lw_all := lw_g (lw_at lw_m3 75 rfl) rfl
theorem q649 : (Jvm.Cond.static ({ cls := "SecretBuyers$Reader", name := "isLetter", desc := "(I)Z" } : Jvm.MethodName)) ∈ lw_all := lw_g (lw_at lw_m3 76 rfl) rfl
theorem q650 : (Jvm.Cond.code ({ cls := "SecretBuyers$Reader", name := "isLetter", desc := "(I)Z" } : Jvm.MethodName) prog_15_method_4_code (1 : Nat) (Option.some Jvm.ClassFile.FieldType.boolean)) ∈ lw_all := lw_g (lw_at lw_m3 77 rfl) rfl
theorem q651 : (Jvm.Cond.methodLink "SecretBuyers$Reader" (60 : Nat) ({ cls := "SecretBuyers$Reader", name := "isDigit", desc := "(I)Z" } : Jvm.MethodName)) ∈ lw_all := lw_g (lw_at lw_m3 78 rfl) rfl
theorem q652 : (Jvm.Cond.static ({ cls := "SecretBuyers$Reader", name := "isDigit", desc := "(I)Z" } : Jvm.MethodName)) ∈ lw_all := lw_g (lw_at lw_m3 79 rfl) rfl
theorem q653 : (Jvm.Cond.code ({ cls := "SecretBuyers$Reader", name := "isDigit", desc := "(I)Z" } : Jvm.MethodName) prog_15_method_5_code (1 : Nat) (Option.some Jvm.ClassFile.FieldType.boolean)) ∈ lw_all := lw_g (lw_at lw_m3 80 rfl) rfl
theorem q654 : (Jvm.Cond.stringRef "SecretBuyers$Reader" (66 : Nat) "()<=+-*;") ∈ lw_tbl := lw_at lw_m3 81 rfl
theorem q655 : (Jvm.Cond.methodLink "SecretBuyers$Reader" (68 : Nat) ({ cls := "java/lang/String", name := "indexOf", desc := "(I)I" } : Jvm.MethodName)) ∈ lw_all := lw_g (lw_at lw_m3 82 rfl) rfl
theorem q738 : (Jvm.Cond.instanceMethod ({ cls := "SecretBuyers$Reader", name := "whole", desc := "()LSecretBuyers$Brief;" } : Jvm.MethodName)) ∈ lw_all := lw_g (lw_at lw_m3 165 rfl) rfl
theorem q739 : (Jvm.Cond.selects "SecretBuyers$Reader" ({ cls := "SecretBuyers$Reader", name := "whole", desc := "()LSecretBuyers$Brief;" } : Jvm.MethodName) ({ cls := "SecretBuyers$Reader", name := "whole", desc := "()LSecretBuyers$Brief;" } : Jvm.MethodName)) ∈ lw_all := lw_g (lw_at lw_m3 166 rfl) rfl
theorem q740 : (Jvm.Cond.code ({ cls := "SecretBuyers$Reader", name := "whole", desc := "()LSecretBuyers$Brief;" } : Jvm.MethodName) prog_15_method_15_code (5 : Nat) (Option.some (Jvm.ClassFile.FieldType.object "SecretBuyers$Brief"))) ∈ lw_all := lw_g (lw_at lw_m3 167 rfl) rfl
theorem q741 : (Jvm.Cond.stringRef "SecretBuyers$Reader" (124 : Nat) "let add must bonus ") ∈ lw_tbl := lw_at lw_m3 168 rfl
theorem q742 : (Jvm.Cond.methodLink "SecretBuyers$Reader" (89 : Nat) ({ cls := "SecretBuyers$Reader", name := "which", desc := "(Ljava/lang/String;)I" } : Jvm.MethodName)) ∈ lw_all := lw_g (lw_at lw_m3 169 rfl) rfl
theorem q743 : (Jvm.Cond.privateMethod ({ cls := "SecretBuyers$Reader", name := "which", desc := "(Ljava/lang/String;)I" } : Jvm.MethodName)) ∈ lw_tbl := lw_at lw_m3 170 rfl
theorem q744 : (Jvm.Cond.instanceMethod ({ cls := "SecretBuyers$Reader", name := "which", desc := "(Ljava/lang/String;)I" } : Jvm.MethodName)) ∈ lw_all := lw_g (lw_at lw_m3 171 rfl) rfl
theorem q745 : (Jvm.Cond.code ({ cls := "SecretBuyers$Reader", name := "which", desc := "(Ljava/lang/String;)I" } : Jvm.MethodName) prog_15_method_8_code (7 : Nat) (Option.some Jvm.ClassFile.FieldType.int)) ∈ lw_all := lw_g (lw_at lw_m3 172 rfl) rfl
theorem q746 : (Jvm.Cond.methodLink "SecretBuyers$Reader" (78 : Nat) ({ cls := "java/lang/String", name := "length", desc := "()I" } : Jvm.MethodName)) ∈ lw_all := lw_g (lw_at lw_m3 173 rfl) rfl
theorem q747 : (Jvm.Cond.methodLink "SecretBuyers$Reader" (82 : Nat) ({ cls := "java/lang/String", name := "indexOf", desc := "(II)I" } : Jvm.MethodName)) ∈ lw_all := lw_g (lw_at lw_m3 174 rfl) rfl
theorem q748 : (Jvm.Cond.methodLink "SecretBuyers$Reader" (85 : Nat) ({ cls := "java/lang/String", name := "charAt", desc := "(I)C" } : Jvm.MethodName)) ∈ lw_all := lw_g (lw_at lw_m3 175 rfl) rfl
theorem q766 : (Jvm.Cond.methodLink "SecretBuyers$Reader" (97 : Nat) ({ cls := "SecretBuyers$Reader", name := "wrong", desc := "(I)LSecretBuyers$Wrong;" } : Jvm.MethodName)) ∈ lw_all := lw_g (lw_at lw_m3 193 rfl) rfl
theorem q767 : (Jvm.Cond.privateMethod ({ cls := "SecretBuyers$Reader", name := "wrong", desc := "(I)LSecretBuyers$Wrong;" } : Jvm.MethodName)) ∈ lw_tbl := lw_at lw_m3 194 rfl
theorem q768 : (Jvm.Cond.instanceMethod ({ cls := "SecretBuyers$Reader", name := "wrong", desc := "(I)LSecretBuyers$Wrong;" } : Jvm.MethodName)) ∈ lw_all := lw_g (lw_at lw_m3 195 rfl) rfl
theorem q769 : (Jvm.Cond.code ({ cls := "SecretBuyers$Reader", name := "wrong", desc := "(I)LSecretBuyers$Wrong;" } : Jvm.MethodName) prog_15_method_7_code (2 : Nat) (Option.some (Jvm.ClassFile.FieldType.object "SecretBuyers$Wrong"))) ∈ lw_all := lw_g (lw_at lw_m3 196 rfl) rfl
theorem q770 : (Jvm.Cond.classLink "SecretBuyers$Reader" (73 : Nat) "SecretBuyers$Wrong") ∈ lw_all := lw_g (lw_at lw_m3 197 rfl) rfl
theorem q810 : (Jvm.Cond.methodLink "SecretBuyers$Reader" (75 : Nat) ({ cls := "SecretBuyers$Wrong", name := "<init>", desc := "(II)V" } : Jvm.MethodName)) ∈ lw_all := lw_g (lw_at lw_m3 237 rfl) rfl
theorem q839 : (Jvm.Cond.methodLink "SecretBuyers$Reader" (126 : Nat) ({ cls := "SecretBuyers$Reader", name := "let", desc := "()V" } : Jvm.MethodName)) ∈ lw_all := lw_g (lw_at lw_m4 26 rfl) rfl
theorem q840 : (Jvm.Cond.privateMethod ({ cls := "SecretBuyers$Reader", name := "let", desc := "()V" } : Jvm.MethodName)) ∈ lw_tbl := lw_at lw_m4 27 rfl
theorem q841 : (Jvm.Cond.instanceMethod ({ cls := "SecretBuyers$Reader", name := "let", desc := "()V" } : Jvm.MethodName)) ∈ lw_all := lw_g (lw_at lw_m4 28 rfl) rfl
theorem q842 : (Jvm.Cond.code ({ cls := "SecretBuyers$Reader", name := "let", desc := "()V" } : Jvm.MethodName) prog_15_method_16_code (3 : Nat) (Option.none : Option Jvm.ClassFile.FieldType)) ∈ lw_all := lw_g (lw_at lw_m4 29 rfl) rfl
theorem q843 : (Jvm.Cond.methodLink "SecretBuyers$Reader" (170 : Nat) ({ cls := "SecretBuyers$Reader", name := "name", desc := "()Ljava/lang/String;" } : Jvm.MethodName)) ∈ lw_all := lw_g (lw_at lw_m4 30 rfl) rfl
theorem q844 : (Jvm.Cond.privateMethod ({ cls := "SecretBuyers$Reader", name := "name", desc := "()Ljava/lang/String;" } : Jvm.MethodName)) ∈ lw_tbl := lw_at lw_m4 31 rfl
theorem q845 : (Jvm.Cond.instanceMethod ({ cls := "SecretBuyers$Reader", name := "name", desc := "()Ljava/lang/String;" } : Jvm.MethodName)) ∈ lw_all := lw_g (lw_at lw_m4 32 rfl) rfl
theorem q846 : (Jvm.Cond.code ({ cls := "SecretBuyers$Reader", name := "name", desc := "()Ljava/lang/String;" } : Jvm.MethodName) prog_15_method_14_code (3 : Nat) (Option.some (Jvm.ClassFile.FieldType.object "java/lang/String"))) ∈ lw_all := lw_g (lw_at lw_m4 33 rfl) rfl
theorem q847 : (Jvm.Cond.stringRef "SecretBuyers$Reader" (105 : Nat) "let add when must bonus item and or not ") ∈ lw_tbl := lw_at lw_m4 34 rfl
theorem q848 : (Jvm.Cond.stringRef "SecretBuyers$Reader" (109 : Nat) "all minutes hour receipt week before ") ∈ lw_tbl := lw_at lw_m4 35 rfl
theorem q849 : (Jvm.Cond.classLink "SecretBuyers$Reader" (111 : Nat) "java/lang/StringBuilder") ∈ lw_all := lw_g (lw_at lw_m4 36 rfl) rfl
theorem q851 : (Jvm.Cond.methodLink "SecretBuyers$Reader" (113 : Nat) ({ cls := "java/lang/StringBuilder", name := "<init>", desc := "(I)V" } : Jvm.MethodName)) ∈ lw_all := lw_g (lw_at lw_m4 38 rfl) rfl
theorem q879 : (Jvm.Cond.methodLink "SecretBuyers$Reader" (116 : Nat) ({ cls := "java/lang/StringBuilder", name := "append", desc := "(C)Ljava/lang/StringBuilder;" } : Jvm.MethodName)) ∈ lw_all := lw_g (lw_at lw_m4 66 rfl) rfl
theorem q939 : (Jvm.Cond.methodLink "SecretBuyers$Reader" (120 : Nat) ({ cls := "java/lang/StringBuilder", name := "toString", desc := "()Ljava/lang/String;" } : Jvm.MethodName)) ∈ lw_all := lw_g (lw_at lw_m4 126 rfl) rfl
theorem q996 : (Jvm.Cond.methodLink "SecretBuyers$Reader" (176 : Nat) ({ cls := "java/util/ArrayList", name := "contains", desc := "(Ljava/lang/Object;)Z" } : Jvm.MethodName)) ∈ lw_all := lw_g (lw_at lw_m4 183 rfl) rfl
theorem q1024 : (Jvm.Cond.selects "SecretBuyers$Reader" ({ cls := "java/lang/Object", name := "equals", desc := "(Ljava/lang/Object;)Z" } : Jvm.MethodName) ({ cls := "java/lang/Object", name := "equals", desc := "(Ljava/lang/Object;)Z" } : Jvm.MethodName)) ∈ lw_all := lw_g (lw_at lw_m4 211 rfl) rfl
theorem q1039 : (Jvm.Cond.methodLink "SecretBuyers$Reader" (179 : Nat) ({ cls := "java/util/ArrayList", name := "size", desc := "()I" } : Jvm.MethodName)) ∈ lw_all := lw_g (lw_at lw_m4 226 rfl) rfl
theorem q1040 : (Jvm.Cond.methodLink "SecretBuyers$Reader" (167 : Nat) ({ cls := "SecretBuyers$Reader", name := "need", desc := "(C)V" } : Jvm.MethodName)) ∈ lw_all := lw_g (lw_at lw_m4 227 rfl) rfl
theorem q1041 : (Jvm.Cond.privateMethod ({ cls := "SecretBuyers$Reader", name := "need", desc := "(C)V" } : Jvm.MethodName)) ∈ lw_tbl := lw_at lw_m4 228 rfl
theorem q1042 : (Jvm.Cond.instanceMethod ({ cls := "SecretBuyers$Reader", name := "need", desc := "(C)V" } : Jvm.MethodName)) ∈ lw_all := lw_g (lw_at lw_m4 229 rfl) rfl
theorem q1043 : (Jvm.Cond.code ({ cls := "SecretBuyers$Reader", name := "need", desc := "(C)V" } : Jvm.MethodName) prog_15_method_12_code (2 : Nat) (Option.none : Option Jvm.ClassFile.FieldType)) ∈ lw_all := lw_g (lw_at lw_m4 230 rfl) rfl
theorem q1044 : (Jvm.Cond.methodLink "SecretBuyers$Reader" (101 : Nat) ({ cls := "SecretBuyers$Reader", name := "isSign", desc := "(C)Z" } : Jvm.MethodName)) ∈ lw_all := lw_g (lw_at lw_m4 231 rfl) rfl
theorem q1045 : (Jvm.Cond.privateMethod ({ cls := "SecretBuyers$Reader", name := "isSign", desc := "(C)Z" } : Jvm.MethodName)) ∈ lw_tbl := lw_at lw_m4 232 rfl
theorem q1046 : (Jvm.Cond.instanceMethod ({ cls := "SecretBuyers$Reader", name := "isSign", desc := "(C)Z" } : Jvm.MethodName)) ∈ lw_all := lw_g (lw_at lw_m4 233 rfl) rfl
theorem q1047 : (Jvm.Cond.code ({ cls := "SecretBuyers$Reader", name := "isSign", desc := "(C)Z" } : Jvm.MethodName) prog_15_method_11_code (2 : Nat) (Option.some Jvm.ClassFile.FieldType.boolean)) ∈ lw_all := lw_g (lw_at lw_m4 234 rfl) rfl
theorem q1048 : (Jvm.Cond.methodLink "SecretBuyers$Reader" (135 : Nat) ({ cls := "SecretBuyers$Reader", name := "e", desc := "()LSecretBuyers$Exp;" } : Jvm.MethodName)) ∈ lw_all := lw_g (lw_at lw_m4 235 rfl) rfl
theorem q1049 : (Jvm.Cond.privateMethod ({ cls := "SecretBuyers$Reader", name := "e", desc := "()LSecretBuyers$Exp;" } : Jvm.MethodName)) ∈ lw_tbl := lw_at lw_m4 236 rfl
theorem q1050 : (Jvm.Cond.instanceMethod ({ cls := "SecretBuyers$Reader", name := "e", desc := "()LSecretBuyers$Exp;" } : Jvm.MethodName)) ∈ lw_all := lw_g (lw_at lw_m4 237 rfl) rfl
theorem q1051 : (Jvm.Cond.code ({ cls := "SecretBuyers$Reader", name := "e", desc := "()LSecretBuyers$Exp;" } : Jvm.MethodName) prog_15_method_17_code (4 : Nat) (Option.some (Jvm.ClassFile.FieldType.object "SecretBuyers$Exp"))) ∈ lw_all := lw_g (lw_at lw_m4 238 rfl) rfl
theorem q1052 : (Jvm.Cond.methodLink "SecretBuyers$Reader" (184 : Nat) ({ cls := "SecretBuyers$Reader", name := "test", desc := "()LSecretBuyers$Exp;" } : Jvm.MethodName)) ∈ lw_all := lw_g (lw_at lw_m4 239 rfl) rfl
theorem q1053 : (Jvm.Cond.privateMethod ({ cls := "SecretBuyers$Reader", name := "test", desc := "()LSecretBuyers$Exp;" } : Jvm.MethodName)) ∈ lw_tbl := lw_at lw_m5 0 rfl
theorem q1054 : (Jvm.Cond.instanceMethod ({ cls := "SecretBuyers$Reader", name := "test", desc := "()LSecretBuyers$Exp;" } : Jvm.MethodName)) ∈ lw_all := lw_g (lw_at lw_m5 1 rfl) rfl
theorem q1055 : (Jvm.Cond.code ({ cls := "SecretBuyers$Reader", name := "test", desc := "()LSecretBuyers$Exp;" } : Jvm.MethodName) prog_15_method_18_code (3 : Nat) (Option.some (Jvm.ClassFile.FieldType.object "SecretBuyers$Exp"))) ∈ lw_all := lw_g (lw_at lw_m5 2 rfl) rfl
theorem q1056 : (Jvm.Cond.methodLink "SecretBuyers$Reader" (196 : Nat) ({ cls := "SecretBuyers$Reader", name := "sum", desc := "()LSecretBuyers$Exp;" } : Jvm.MethodName)) ∈ lw_all := lw_g (lw_at lw_m5 3 rfl) rfl
theorem q1057 : (Jvm.Cond.privateMethod ({ cls := "SecretBuyers$Reader", name := "sum", desc := "()LSecretBuyers$Exp;" } : Jvm.MethodName)) ∈ lw_tbl := lw_at lw_m5 4 rfl
theorem q1058 : (Jvm.Cond.instanceMethod ({ cls := "SecretBuyers$Reader", name := "sum", desc := "()LSecretBuyers$Exp;" } : Jvm.MethodName)) ∈ lw_all := lw_g (lw_at lw_m5 5 rfl) rfl
theorem q1059 : (Jvm.Cond.code ({ cls := "SecretBuyers$Reader", name := "sum", desc := "()LSecretBuyers$Exp;" } : Jvm.MethodName) prog_15_method_19_code (4 : Nat) (Option.some (Jvm.ClassFile.FieldType.object "SecretBuyers$Exp"))) ∈ lw_all := lw_g (lw_at lw_m5 6 rfl) rfl
theorem q1060 : (Jvm.Cond.methodLink "SecretBuyers$Reader" (199 : Nat) ({ cls := "SecretBuyers$Reader", name := "term", desc := "()LSecretBuyers$Exp;" } : Jvm.MethodName)) ∈ lw_all := lw_g (lw_at lw_m5 7 rfl) rfl
theorem q1061 : (Jvm.Cond.privateMethod ({ cls := "SecretBuyers$Reader", name := "term", desc := "()LSecretBuyers$Exp;" } : Jvm.MethodName)) ∈ lw_tbl := lw_at lw_m5 8 rfl
theorem q1062 : (Jvm.Cond.instanceMethod ({ cls := "SecretBuyers$Reader", name := "term", desc := "()LSecretBuyers$Exp;" } : Jvm.MethodName)) ∈ lw_all := lw_g (lw_at lw_m5 9 rfl) rfl
theorem q1063 : (Jvm.Cond.code ({ cls := "SecretBuyers$Reader", name := "term", desc := "()LSecretBuyers$Exp;" } : Jvm.MethodName) prog_15_method_20_code (3 : Nat) (Option.some (Jvm.ClassFile.FieldType.object "SecretBuyers$Exp"))) ∈ lw_all := lw_g (lw_at lw_m5 10 rfl) rfl
theorem q1064 : (Jvm.Cond.methodLink "SecretBuyers$Reader" (202 : Nat) ({ cls := "SecretBuyers$Reader", name := "part", desc := "()LSecretBuyers$Exp;" } : Jvm.MethodName)) ∈ lw_all := lw_g (lw_at lw_m5 11 rfl) rfl
theorem q1065 : (Jvm.Cond.privateMethod ({ cls := "SecretBuyers$Reader", name := "part", desc := "()LSecretBuyers$Exp;" } : Jvm.MethodName)) ∈ lw_tbl := lw_at lw_m5 12 rfl
theorem q1066 : (Jvm.Cond.instanceMethod ({ cls := "SecretBuyers$Reader", name := "part", desc := "()LSecretBuyers$Exp;" } : Jvm.MethodName)) ∈ lw_all := lw_g (lw_at lw_m5 13 rfl) rfl
theorem q1067 : (Jvm.Cond.code ({ cls := "SecretBuyers$Reader", name := "part", desc := "()LSecretBuyers$Exp;" } : Jvm.MethodName) prog_15_method_21_code (9 : Nat) (Option.some (Jvm.ClassFile.FieldType.object "SecretBuyers$Exp"))) ∈ lw_all := lw_g (lw_at lw_m5 14 rfl) rfl
theorem q1068 : (Jvm.Cond.stringRef "SecretBuyers$Reader" (205 : Nat) "not ") ∈ lw_tbl := lw_at lw_m5 15 rfl
theorem q1069 : (Jvm.Cond.stringRef "SecretBuyers$Reader" (207 : Nat) "item ") ∈ lw_tbl := lw_at lw_m5 16 rfl
theorem q1070 : (Jvm.Cond.methodLink "SecretBuyers$Reader" (209 : Nat) ({ cls := "java/util/ArrayList", name := "indexOf", desc := "(Ljava/lang/Object;)I" } : Jvm.MethodName)) ∈ lw_all := lw_g (lw_at lw_m5 17 rfl) rfl
theorem q1071 : (Jvm.Cond.classLink "SecretBuyers$Reader" (212 : Nat) "SecretBuyers$About") ∈ lw_all := lw_g (lw_at lw_m5 18 rfl) rfl
theorem q1073 : (Jvm.Cond.methodLink "SecretBuyers$Reader" (148 : Nat) ({ cls := "SecretBuyers$Reader", name := "number", desc := "(II)I" } : Jvm.MethodName)) ∈ lw_all := lw_g (lw_at lw_m5 20 rfl) rfl
theorem q1074 : (Jvm.Cond.privateMethod ({ cls := "SecretBuyers$Reader", name := "number", desc := "(II)I" } : Jvm.MethodName)) ∈ lw_tbl := lw_at lw_m5 21 rfl
theorem q1075 : (Jvm.Cond.instanceMethod ({ cls := "SecretBuyers$Reader", name := "number", desc := "(II)I" } : Jvm.MethodName)) ∈ lw_all := lw_g (lw_at lw_m5 22 rfl) rfl
theorem q1076 : (Jvm.Cond.code ({ cls := "SecretBuyers$Reader", name := "number", desc := "(II)I" } : Jvm.MethodName) prog_15_method_13_code (4 : Nat) (Option.some Jvm.ClassFile.FieldType.int)) ∈ lw_all := lw_g (lw_at lw_m5 23 rfl) rfl
theorem q1077 : (Jvm.Cond.methodLink "SecretBuyers$Reader" (214 : Nat) ({ cls := "SecretBuyers$About", name := "<init>", desc := "(I)V" } : Jvm.MethodName)) ∈ lw_all := lw_g (lw_at lw_m5 24 rfl) rfl
theorem q1088 : (Jvm.Cond.classLink "SecretBuyers$Reader" (215 : Nat) "SecretBuyers$Named") ∈ lw_all := lw_g (lw_at lw_m5 35 rfl) rfl
theorem q1090 : (Jvm.Cond.methodLink "SecretBuyers$Reader" (217 : Nat) ({ cls := "SecretBuyers$Named", name := "<init>", desc := "(I)V" } : Jvm.MethodName)) ∈ lw_all := lw_g (lw_at lw_m5 37 rfl) rfl
theorem q1098 : (Jvm.Cond.classLink "SecretBuyers$Reader" (218 : Nat) "SecretBuyers$Constant") ∈ lw_all := lw_g (lw_at lw_m5 45 rfl) rfl
theorem q1100 : (Jvm.Cond.methodLink "SecretBuyers$Reader" (220 : Nat) ({ cls := "SecretBuyers$Constant", name := "<init>", desc := "(I)V" } : Jvm.MethodName)) ∈ lw_all := lw_g (lw_at lw_m5 47 rfl) rfl
theorem q1108 : (Jvm.Cond.classLink "SecretBuyers$Reader" (221 : Nat) "SecretBuyers$Not") ∈ lw_all := lw_g (lw_at lw_m5 55 rfl) rfl
theorem q1110 : (Jvm.Cond.methodLink "SecretBuyers$Reader" (223 : Nat) ({ cls := "SecretBuyers$Not", name := "<init>", desc := "(LSecretBuyers$Exp;)V" } : Jvm.MethodName)) ∈ lw_all := lw_g (lw_at lw_m5 57 rfl) rfl
theorem q1118 : (Jvm.Cond.classLink "SecretBuyers$Reader" (189 : Nat) "SecretBuyers$Row") ∈ lw_all := lw_g (lw_at lw_m5 65 rfl) rfl
theorem q1120 : (Jvm.Cond.methodLink "SecretBuyers$Reader" (191 : Nat) ({ cls := "SecretBuyers$Row", name := "<init>", desc := "(LSecretBuyers$Exp;)V" } : Jvm.MethodName)) ∈ lw_all := lw_g (lw_at lw_m5 67 rfl) rfl
theorem q1136 : (Jvm.Cond.methodLink "SecretBuyers$Reader" (192 : Nat) ({ cls := "SecretBuyers$Row", name := "and", desc := "(CLSecretBuyers$Exp;)LSecretBuyers$Row;" } : Jvm.MethodName)) ∈ lw_all := lw_g (lw_at lw_m5 83 rfl) rfl
theorem q1141 : (Jvm.Cond.stringRef "SecretBuyers$Reader" (187 : Nat) "and or ") ∈ lw_tbl := lw_at lw_m5 88 rfl
theorem q1142 : (Jvm.Cond.methodLink "SecretBuyers$Reader" (142 : Nat) ({ cls := "java/util/ArrayList", name := "add", desc := "(Ljava/lang/Object;)Z" } : Jvm.MethodName)) ∈ lw_all := lw_g (lw_at lw_m5 89 rfl) rfl
theorem q1143 : (Jvm.Cond.classLink "SecretBuyers$Reader" (133 : Nat) "SecretBuyers$Must") ∈ lw_all := lw_g (lw_at lw_m5 90 rfl) rfl
theorem q1145 : (Jvm.Cond.methodLink "SecretBuyers$Reader" (139 : Nat) ({ cls := "SecretBuyers$Must", name := "<init>", desc := "(LSecretBuyers$Exp;)V" } : Jvm.MethodName)) ∈ lw_all := lw_g (lw_at lw_m5 92 rfl) rfl
theorem q1156 : (Jvm.Cond.stringRef "SecretBuyers$Reader" (151 : Nat) "when ") ∈ lw_tbl := lw_at lw_m5 103 rfl
theorem q1157 : (Jvm.Cond.methodLink "SecretBuyers$Reader" (153 : Nat) ({ cls := "SecretBuyers$Reader", name := "need", desc := "(Ljava/lang/String;)V" } : Jvm.MethodName)) ∈ lw_all := lw_g (lw_at lw_m5 104 rfl) rfl
theorem q1158 : (Jvm.Cond.privateMethod ({ cls := "SecretBuyers$Reader", name := "need", desc := "(Ljava/lang/String;)V" } : Jvm.MethodName)) ∈ lw_tbl := lw_at lw_m5 105 rfl
theorem q1159 : (Jvm.Cond.instanceMethod ({ cls := "SecretBuyers$Reader", name := "need", desc := "(Ljava/lang/String;)V" } : Jvm.MethodName)) ∈ lw_all := lw_g (lw_at lw_m5 106 rfl) rfl
theorem q1160 : (Jvm.Cond.code ({ cls := "SecretBuyers$Reader", name := "need", desc := "(Ljava/lang/String;)V" } : Jvm.MethodName) prog_15_method_10_code (2 : Nat) (Option.none : Option Jvm.ClassFile.FieldType)) ∈ lw_all := lw_g (lw_at lw_m5 107 rfl) rfl
theorem q1161 : (Jvm.Cond.methodLink "SecretBuyers$Reader" (93 : Nat) ({ cls := "SecretBuyers$Reader", name := "meets", desc := "(Ljava/lang/String;)Z" } : Jvm.MethodName)) ∈ lw_all := lw_g (lw_at lw_m5 108 rfl) rfl
theorem q1162 : (Jvm.Cond.privateMethod ({ cls := "SecretBuyers$Reader", name := "meets", desc := "(Ljava/lang/String;)Z" } : Jvm.MethodName)) ∈ lw_tbl := lw_at lw_m5 109 rfl
theorem q1163 : (Jvm.Cond.instanceMethod ({ cls := "SecretBuyers$Reader", name := "meets", desc := "(Ljava/lang/String;)Z" } : Jvm.MethodName)) ∈ lw_all := lw_g (lw_at lw_m5 110 rfl) rfl
theorem q1164 : (Jvm.Cond.code ({ cls := "SecretBuyers$Reader", name := "meets", desc := "(Ljava/lang/String;)Z" } : Jvm.MethodName) prog_15_method_9_code (2 : Nat) (Option.some Jvm.ClassFile.FieldType.boolean)) ∈ lw_all := lw_g (lw_at lw_m5 111 rfl) rfl
theorem q1165 : (Jvm.Cond.classLink "SecretBuyers$Reader" (157 : Nat) "SecretBuyers$Add") ∈ lw_all := lw_g (lw_at lw_m5 112 rfl) rfl
theorem q1167 : (Jvm.Cond.methodLink "SecretBuyers$Reader" (159 : Nat) ({ cls := "SecretBuyers$Add", name := "<init>", desc := "(LSecretBuyers$Exp;LSecretBuyers$Exp;)V" } : Jvm.MethodName)) ∈ lw_all := lw_g (lw_at lw_m5 114 rfl) rfl
theorem q1176 : (Jvm.Cond.classLink "SecretBuyers$Reader" (162 : Nat) "SecretBuyers$Bonus") ∈ lw_all := lw_g (lw_at lw_m5 123 rfl) rfl
theorem q1178 : (Jvm.Cond.methodLink "SecretBuyers$Reader" (164 : Nat) ({ cls := "SecretBuyers$Bonus", name := "<init>", desc := "(ILSecretBuyers$Exp;)V" } : Jvm.MethodName)) ∈ lw_all := lw_g (lw_at lw_m5 125 rfl) rfl
theorem q2170 : (Jvm.Cond.castable "SecretBuyers$Reader" "java/lang/Object") ∈ lw_tbl := lw_at lw_m9 157 rfl
theorem in_X2 : ∀ w ∈ wsX20, w ∈ lw_all := lw_in wsX20 [187, 189, 191, 193, 195, 197, 199, 201, 203, 205, 207] (by decide +kernel) (by decide +kernel)
/-! SecretBuyers$Ask -/
set_option maxRecDepth 100000
def RX3 : String := "SecretBuyers$Ask"
def TX3 : u_T := fun k => match k with
  | 0 => ("SecretBuyers$Ask", "value", "[I", true)
  | _ => ("SecretBuyers$Ask", "name", "[I", true)
def tyX3 : Nat → FieldType := fun k => match k with
  | 0 => .array .int
  | _ => .array .int
abbrev wsX30 : List Cond := u_ws RX3 TX3 2
theorem nmX3 : ∀ a, a < 2 → ∀ b, b < 2 → a ≠ b → (TX3 a).2.1 ≠ (TX3 b).2.1 := by decide +kernel
theorem tyX3_ok : ∀ k, k < 2 → parseFieldDescriptor (TX3 k).2.2.1 = some (tyX3 k) := by decide +kernel
abbrev cX3_init : ByteArray := prog_5_method_1_code
def yX3_init : MethodName := ⟨RX3, "<init>", "()V"⟩
def dkwX3_init_0 : List UInt8 := [42, 183, 0, 3, 42, 16, 18, 188, 10, 181, 0, 9, 42, 16, 8, 188, 10, 181, 0, 15, 177]
abbrev dktX3_init_0 : List UInt8 := dkwX3_init_0 ++ []
theorem dksX3_init_0 : cX3_init.data.toList.drop 0 = dktX3_init_0 := by decide +kernel
theorem dX3_init_0 : decode cX3_init 0 = .ok (.aload_n 0, 1) := dk_42 (dk_at dksX3_init_0 0 rfl rfl)
theorem dX3_init_1 : decode cX3_init 1 = .ok (.invokespecial 3, 3) := dk_183 0 3 (dk_at dksX3_init_0 1 rfl rfl)
theorem dX3_init_4 : decode cX3_init 4 = .ok (.aload_n 0, 1) := dk_42 (dk_at dksX3_init_0 4 rfl rfl)
theorem dX3_init_5 : decode cX3_init 5 = .ok (.bipush 18, 2) := dk_16 18 (dk_at dksX3_init_0 5 rfl rfl)
theorem dX3_init_7 : decode cX3_init 7 = .ok (.newarray .int, 2) := dk_188_10 (dk_at dksX3_init_0 7 rfl rfl)
theorem dX3_init_9 : decode cX3_init 9 = .ok (.putfield 9, 3) := dk_181 0 9 (dk_at dksX3_init_0 9 rfl rfl)
theorem dX3_init_12 : decode cX3_init 12 = .ok (.aload_n 0, 1) := dk_42 (dk_at dksX3_init_0 12 rfl rfl)
theorem dX3_init_13 : decode cX3_init 13 = .ok (.bipush 8, 2) := dk_16 8 (dk_at dksX3_init_0 13 rfl rfl)
theorem dX3_init_15 : decode cX3_init 15 = .ok (.newarray .int, 2) := dk_188_10 (dk_at dksX3_init_0 15 rfl rfl)
theorem dX3_init_17 : decode cX3_init 17 = .ok (.putfield 15, 3) := dk_181 0 15 (dk_at dksX3_init_0 17 rfl rfl)
theorem dX3_init_20 : decode cX3_init 20 = .ok (.return_, 1) := dk_177 (dk_at dksX3_init_0 20 rfl rfl)
abbrev cX3_be : ByteArray := prog_5_method_2_code
def yX3_be : MethodName := ⟨RX3, "be", "(LSecretBuyers$Visit;I)V"⟩
def dkwX3_be_4 : List UInt8 := [108, 16, 53, 112, 79, 42, 180, 0, 9, 16, 17, 43, 180, 0, 39, 79, 177]
abbrev dktX3_be_4 : List UInt8 := dkwX3_be_4 ++ []
def dkwX3_be_3 : List UInt8 := [180, 0, 33, 156, 0, 7, 3, 167, 0, 4, 4, 79, 42, 180, 0, 9, 16, 16, 43, 180, 0, 36, 16, 7]
abbrev dktX3_be_3 : List UInt8 := dkwX3_be_3 ++ dktX3_be_4
def dkwX3_be_2 : List UInt8 := [79, 42, 180, 0, 9, 16, 14, 43, 180, 0, 30, 16, 60, 108, 79, 42, 180, 0, 9, 16, 15, 43]
abbrev dktX3_be_2 : List UInt8 := dkwX3_be_2 ++ dktX3_be_3
def dkwX3_be_1 : List UInt8 := [167, 255, 236, 42, 180, 0, 9, 16, 12, 28, 184, 0, 18, 79, 42, 180, 0, 9, 16, 13, 43, 180, 0, 24]
abbrev dktX3_be_1 : List UInt8 := dkwX3_be_1 ++ dktX3_be_2
def dkwX3_be_0 : List UInt8 := [3, 62, 29, 16, 12, 162, 0, 20, 42, 180, 0, 9, 29, 28, 29, 122, 4, 126, 79, 132, 3, 1]
abbrev dktX3_be_0 : List UInt8 := dkwX3_be_0 ++ dktX3_be_1
theorem dksX3_be_0 : cX3_be.data.toList.drop 0 = dktX3_be_0 := by decide +kernel
theorem dksX3_be_1 : cX3_be.data.toList.drop 22 = dktX3_be_1 := dk_seg dksX3_be_0 22 rfl rfl
theorem dksX3_be_2 : cX3_be.data.toList.drop 46 = dktX3_be_2 := dk_seg dksX3_be_1 24 rfl rfl
theorem dksX3_be_3 : cX3_be.data.toList.drop 68 = dktX3_be_3 := dk_seg dksX3_be_2 22 rfl rfl
theorem dksX3_be_4 : cX3_be.data.toList.drop 92 = dktX3_be_4 := dk_seg dksX3_be_3 24 rfl rfl
theorem dX3_be_0 : decode cX3_be 0 = .ok (.iconst 0, 1) := dk_3 (dk_at dksX3_be_0 0 rfl rfl)
theorem dX3_be_1 : decode cX3_be 1 = .ok (.istore_n 3, 1) := dk_62 (dk_at dksX3_be_0 1 rfl rfl)
theorem dX3_be_2 : decode cX3_be 2 = .ok (.iload_n 3, 1) := dk_29 (dk_at dksX3_be_0 2 rfl rfl)
theorem dX3_be_3 : decode cX3_be 3 = .ok (.bipush 12, 2) := dk_16 12 (dk_at dksX3_be_0 3 rfl rfl)
theorem dX3_be_5 : decode cX3_be 5 = .ok (.if_icmp .ge 20, 3) := dk_162 0 20 (dk_at dksX3_be_0 5 rfl rfl)
theorem dX3_be_8 : decode cX3_be 8 = .ok (.aload_n 0, 1) := dk_42 (dk_at dksX3_be_0 8 rfl rfl)
theorem dX3_be_9 : decode cX3_be 9 = .ok (.getfield 9, 3) := dk_180 0 9 (dk_at dksX3_be_0 9 rfl rfl)
theorem dX3_be_12 : decode cX3_be 12 = .ok (.iload_n 3, 1) := dk_29 (dk_at dksX3_be_0 12 rfl rfl)
theorem dX3_be_13 : decode cX3_be 13 = .ok (.iload_n 2, 1) := dk_28 (dk_at dksX3_be_0 13 rfl rfl)
theorem dX3_be_14 : decode cX3_be 14 = .ok (.iload_n 3, 1) := dk_29 (dk_at dksX3_be_0 14 rfl rfl)
theorem dX3_be_15 : decode cX3_be 15 = .ok (.ishr, 1) := dk_122 (dk_at dksX3_be_0 15 rfl rfl)
theorem dX3_be_16 : decode cX3_be 16 = .ok (.iconst 1, 1) := dk_4 (dk_at dksX3_be_0 16 rfl rfl)
theorem dX3_be_17 : decode cX3_be 17 = .ok (.iand, 1) := dk_126 (dk_at dksX3_be_0 17 rfl rfl)
theorem dX3_be_18 : decode cX3_be 18 = .ok (.iastore, 1) := dk_79 (dk_at dksX3_be_0 18 rfl rfl)
theorem dX3_be_19 : decode cX3_be 19 = .ok (.iinc 3 1, 3) := dk_132 3 1 (dk_at dksX3_be_0 19 rfl rfl)
theorem dX3_be_22 : decode cX3_be 22 = .ok (.goto (-20), 3) := dk_167 255 236 (dk_at dksX3_be_1 0 rfl rfl)
theorem dX3_be_25 : decode cX3_be 25 = .ok (.aload_n 0, 1) := dk_42 (dk_at dksX3_be_1 3 rfl rfl)
theorem dX3_be_26 : decode cX3_be 26 = .ok (.getfield 9, 3) := dk_180 0 9 (dk_at dksX3_be_1 4 rfl rfl)
theorem dX3_be_29 : decode cX3_be 29 = .ok (.bipush 12, 2) := dk_16 12 (dk_at dksX3_be_1 7 rfl rfl)
theorem dX3_be_31 : decode cX3_be 31 = .ok (.iload_n 2, 1) := dk_28 (dk_at dksX3_be_1 9 rfl rfl)
theorem dX3_be_32 : decode cX3_be 32 = .ok (.invokestatic 18, 3) := dk_184 0 18 (dk_at dksX3_be_1 10 rfl rfl)
theorem dX3_be_35 : decode cX3_be 35 = .ok (.iastore, 1) := dk_79 (dk_at dksX3_be_1 13 rfl rfl)
theorem dX3_be_36 : decode cX3_be 36 = .ok (.aload_n 0, 1) := dk_42 (dk_at dksX3_be_1 14 rfl rfl)
theorem dX3_be_37 : decode cX3_be 37 = .ok (.getfield 9, 3) := dk_180 0 9 (dk_at dksX3_be_1 15 rfl rfl)
theorem dX3_be_40 : decode cX3_be 40 = .ok (.bipush 13, 2) := dk_16 13 (dk_at dksX3_be_1 18 rfl rfl)
theorem dX3_be_42 : decode cX3_be 42 = .ok (.aload_n 1, 1) := dk_43 (dk_at dksX3_be_1 20 rfl rfl)
theorem dX3_be_43 : decode cX3_be 43 = .ok (.getfield 24, 3) := dk_180 0 24 (dk_at dksX3_be_1 21 rfl rfl)
theorem dX3_be_46 : decode cX3_be 46 = .ok (.iastore, 1) := dk_79 (dk_at dksX3_be_2 0 rfl rfl)
theorem dX3_be_47 : decode cX3_be 47 = .ok (.aload_n 0, 1) := dk_42 (dk_at dksX3_be_2 1 rfl rfl)
theorem dX3_be_48 : decode cX3_be 48 = .ok (.getfield 9, 3) := dk_180 0 9 (dk_at dksX3_be_2 2 rfl rfl)
theorem dX3_be_51 : decode cX3_be 51 = .ok (.bipush 14, 2) := dk_16 14 (dk_at dksX3_be_2 5 rfl rfl)
theorem dX3_be_53 : decode cX3_be 53 = .ok (.aload_n 1, 1) := dk_43 (dk_at dksX3_be_2 7 rfl rfl)
theorem dX3_be_54 : decode cX3_be 54 = .ok (.getfield 30, 3) := dk_180 0 30 (dk_at dksX3_be_2 8 rfl rfl)
theorem dX3_be_57 : decode cX3_be 57 = .ok (.bipush 60, 2) := dk_16 60 (dk_at dksX3_be_2 11 rfl rfl)
theorem dX3_be_59 : decode cX3_be 59 = .ok (.idiv, 1) := dk_108 (dk_at dksX3_be_2 13 rfl rfl)
theorem dX3_be_60 : decode cX3_be 60 = .ok (.iastore, 1) := dk_79 (dk_at dksX3_be_2 14 rfl rfl)
theorem dX3_be_61 : decode cX3_be 61 = .ok (.aload_n 0, 1) := dk_42 (dk_at dksX3_be_2 15 rfl rfl)
theorem dX3_be_62 : decode cX3_be 62 = .ok (.getfield 9, 3) := dk_180 0 9 (dk_at dksX3_be_2 16 rfl rfl)
theorem dX3_be_65 : decode cX3_be 65 = .ok (.bipush 15, 2) := dk_16 15 (dk_at dksX3_be_2 19 rfl rfl)
theorem dX3_be_67 : decode cX3_be 67 = .ok (.aload_n 1, 1) := dk_43 (dk_at dksX3_be_2 21 rfl rfl)
theorem dX3_be_68 : decode cX3_be 68 = .ok (.getfield 33, 3) := dk_180 0 33 (dk_at dksX3_be_3 0 rfl rfl)
theorem dX3_be_71 : decode cX3_be 71 = .ok (.ifCond .ge 7, 3) := dk_156 0 7 (dk_at dksX3_be_3 3 rfl rfl)
theorem dX3_be_74 : decode cX3_be 74 = .ok (.iconst 0, 1) := dk_3 (dk_at dksX3_be_3 6 rfl rfl)
theorem dX3_be_75 : decode cX3_be 75 = .ok (.goto 4, 3) := dk_167 0 4 (dk_at dksX3_be_3 7 rfl rfl)
theorem dX3_be_78 : decode cX3_be 78 = .ok (.iconst 1, 1) := dk_4 (dk_at dksX3_be_3 10 rfl rfl)
theorem dX3_be_79 : decode cX3_be 79 = .ok (.iastore, 1) := dk_79 (dk_at dksX3_be_3 11 rfl rfl)
theorem dX3_be_80 : decode cX3_be 80 = .ok (.aload_n 0, 1) := dk_42 (dk_at dksX3_be_3 12 rfl rfl)
theorem dX3_be_81 : decode cX3_be 81 = .ok (.getfield 9, 3) := dk_180 0 9 (dk_at dksX3_be_3 13 rfl rfl)
theorem dX3_be_84 : decode cX3_be 84 = .ok (.bipush 16, 2) := dk_16 16 (dk_at dksX3_be_3 16 rfl rfl)
theorem dX3_be_86 : decode cX3_be 86 = .ok (.aload_n 1, 1) := dk_43 (dk_at dksX3_be_3 18 rfl rfl)
theorem dX3_be_87 : decode cX3_be 87 = .ok (.getfield 36, 3) := dk_180 0 36 (dk_at dksX3_be_3 19 rfl rfl)
theorem dX3_be_90 : decode cX3_be 90 = .ok (.bipush 7, 2) := dk_16 7 (dk_at dksX3_be_3 22 rfl rfl)
theorem dX3_be_92 : decode cX3_be 92 = .ok (.idiv, 1) := dk_108 (dk_at dksX3_be_4 0 rfl rfl)
theorem dX3_be_93 : decode cX3_be 93 = .ok (.bipush 53, 2) := dk_16 53 (dk_at dksX3_be_4 1 rfl rfl)
theorem dX3_be_95 : decode cX3_be 95 = .ok (.irem, 1) := dk_112 (dk_at dksX3_be_4 3 rfl rfl)
theorem dX3_be_96 : decode cX3_be 96 = .ok (.iastore, 1) := dk_79 (dk_at dksX3_be_4 4 rfl rfl)
theorem dX3_be_97 : decode cX3_be 97 = .ok (.aload_n 0, 1) := dk_42 (dk_at dksX3_be_4 5 rfl rfl)
theorem dX3_be_98 : decode cX3_be 98 = .ok (.getfield 9, 3) := dk_180 0 9 (dk_at dksX3_be_4 6 rfl rfl)
theorem dX3_be_101 : decode cX3_be 101 = .ok (.bipush 17, 2) := dk_16 17 (dk_at dksX3_be_4 9 rfl rfl)
theorem dX3_be_103 : decode cX3_be 103 = .ok (.aload_n 1, 1) := dk_43 (dk_at dksX3_be_4 11 rfl rfl)
theorem dX3_be_104 : decode cX3_be 104 = .ok (.getfield 39, 3) := dk_180 0 39 (dk_at dksX3_be_4 12 rfl rfl)
theorem dX3_be_107 : decode cX3_be 107 = .ok (.iastore, 1) := dk_79 (dk_at dksX3_be_4 15 rfl rfl)
theorem dX3_be_108 : decode cX3_be 108 = .ok (.return_, 1) := dk_177 (dk_at dksX3_be_4 16 rfl rfl)
theorem q99 : (Jvm.Cond.initialized "SecretBuyers$Ask") ∈ lw_all := lw_g (lw_at lw_m1 6 rfl) rfl
theorem q212 : (Jvm.Cond.instantiable "SecretBuyers$Ask" (2 : Nat)) ∈ lw_all := lw_g (lw_at lw_m1 119 rfl) rfl
theorem q214 : (Jvm.Cond.instanceMethod ({ cls := "SecretBuyers$Ask", name := "<init>", desc := "()V" } : Jvm.MethodName)) ∈ lw_all := lw_g (lw_at lw_m1 121 rfl) rfl
theorem q215 : (Jvm.Cond.code ({ cls := "SecretBuyers$Ask", name := "<init>", desc := "()V" } : Jvm.MethodName) prog_5_method_1_code (1 : Nat) (Option.none : Option Jvm.ClassFile.FieldType)) ∈ lw_all := lw_g (lw_at lw_m1 122 rfl) rfl
theorem q216 : (Jvm.Cond.methodLink "SecretBuyers$Ask" (3 : Nat) ({ cls := "java/lang/Object", name := "<init>", desc := "()V" } : Jvm.MethodName)) ∈ lw_all := lw_g (lw_at lw_m1 123 rfl) rfl
theorem q217 : (Jvm.Cond.fieldLink "SecretBuyers$Ask" (9 : Nat) "SecretBuyers$Ask" "value" "[I") ∈ lw_all := lw_g (lw_at lw_m1 124 rfl) rfl
theorem q219 : (Jvm.Cond.fieldLink "SecretBuyers$Ask" (15 : Nat) "SecretBuyers$Ask" "name" "[I") ∈ lw_all := lw_g (lw_at lw_m1 126 rfl) rfl
theorem q222 : (Jvm.Cond.laysFinal "SecretBuyers$Ask" "SecretBuyers$Ask" "value" "[I") ∈ lw_all := lw_g (lw_at lw_m1 129 rfl) rfl
theorem q223 : (Jvm.Cond.soleField "SecretBuyers$Ask" "value") ∈ lw_all := lw_g (lw_at lw_m1 130 rfl) rfl
theorem q224 : (Jvm.Cond.laysFinal "SecretBuyers$Ask" "SecretBuyers$Ask" "name" "[I") ∈ lw_all := lw_g (lw_at lw_m1 131 rfl) rfl
theorem q225 : (Jvm.Cond.soleField "SecretBuyers$Ask" "name") ∈ lw_all := lw_g (lw_at lw_m1 132 rfl) rfl
theorem q226 : (Jvm.Cond.superclass "SecretBuyers$Ask" "java/lang/Object") ∈ lw_all := lw_g (lw_at lw_m1 133 rfl) rfl
theorem q427 : (Jvm.Cond.selects "SecretBuyers$Ask" ({ cls := "java/lang/Object", name := "getClass", desc := "()Ljava/lang/Class;" } : Jvm.MethodName) ({ cls := "java/lang/Object", name := "getClass", desc := "()Ljava/lang/Class;" } : Jvm.MethodName)) ∈ lw_all := lw_g (lw_at lw_m2 94 rfl) rfl
theorem q506 : (Jvm.Cond.fieldLinkNest "SecretBuyers$Ask" (36 : Nat) "SecretBuyers$Visit" "day" "I" "SecretBuyers") ∈ lw_tbl := lw_at lw_m2 173 rfl
theorem q509 : (Jvm.Cond.fieldLinkNest "SecretBuyers$Ask" (30 : Nat) "SecretBuyers$Visit" "minute" "I" "SecretBuyers") ∈ lw_tbl := lw_at lw_m2 176 rfl
theorem q511 : (Jvm.Cond.fieldLinkNest "SecretBuyers$Ask" (24 : Nat) "SecretBuyers$Visit" "minutes" "I" "SecretBuyers") ∈ lw_tbl := lw_at lw_m2 178 rfl
theorem q515 : (Jvm.Cond.fieldLinkNest "SecretBuyers$Ask" (33 : Nat) "SecretBuyers$Visit" "receipt" "I" "SecretBuyers") ∈ lw_tbl := lw_at lw_m2 182 rfl
theorem q524 : (Jvm.Cond.fieldLinkNest "SecretBuyers$Ask" (39 : Nat) "SecretBuyers$Visit" "before" "I" "SecretBuyers") ∈ lw_tbl := lw_at lw_m2 191 rfl
theorem q1016 : (Jvm.Cond.selects "SecretBuyers$Ask" ({ cls := "java/lang/Object", name := "equals", desc := "(Ljava/lang/Object;)Z" } : Jvm.MethodName) ({ cls := "java/lang/Object", name := "equals", desc := "(Ljava/lang/Object;)Z" } : Jvm.MethodName)) ∈ lw_all := lw_g (lw_at lw_m4 203 rfl) rfl
theorem q1242 : (Jvm.Cond.instanceMethod ({ cls := "SecretBuyers$Ask", name := "be", desc := "(LSecretBuyers$Visit;I)V" } : Jvm.MethodName)) ∈ lw_all := lw_g (lw_at lw_m5 189 rfl) rfl
theorem q1243 : (Jvm.Cond.selects "SecretBuyers$Ask" ({ cls := "SecretBuyers$Ask", name := "be", desc := "(LSecretBuyers$Visit;I)V" } : Jvm.MethodName) ({ cls := "SecretBuyers$Ask", name := "be", desc := "(LSecretBuyers$Visit;I)V" } : Jvm.MethodName)) ∈ lw_all := lw_g (lw_at lw_m5 190 rfl) rfl
theorem q1244 : (Jvm.Cond.code ({ cls := "SecretBuyers$Ask", name := "be", desc := "(LSecretBuyers$Visit;I)V" } : Jvm.MethodName) prog_5_method_2_code (4 : Nat) (Option.none : Option Jvm.ClassFile.FieldType)) ∈ lw_all := lw_g (lw_at lw_m5 191 rfl) rfl
theorem q1245 : (Jvm.Cond.methodLink "SecretBuyers$Ask" (18 : Nat) ({ cls := "java/lang/Integer", name := "bitCount", desc := "(I)I" } : Jvm.MethodName)) ∈ lw_all := lw_g (lw_at lw_m5 192 rfl) rfl
theorem q2171 : (Jvm.Cond.castable "SecretBuyers$Ask" "java/lang/Object") ∈ lw_tbl := lw_at lw_m9 158 rfl
theorem in_X3 : ∀ w ∈ wsX30, w ∈ lw_all := lw_in wsX30 [222, 224] (by decide +kernel) (by decide +kernel)
/-! SecretBuyers$Wrong -/
set_option maxRecDepth 100000
def RX10 : String := "SecretBuyers$Wrong"
def TX10 : u_T := fun k => match k with
  | 0 => ("java/lang/Throwable", "cause", "Ljava/lang/Throwable;", false)
  | 1 => ("java/lang/Throwable", "stackTrace", "[Ljava/lang/StackTraceElement;", false)
  | 2 => ("java/lang/Throwable", "suppressedExceptions", "Ljava/util/List;", false)
  | 3 => ("java/lang/Throwable", "detailMessage", "Ljava/lang/String;", false)
  | 4 => ("java/lang/Throwable", "backtrace", "Ljava/lang/Object;", false)
  | 5 => ("java/lang/Throwable", "depth", "I", false)
  | _ => ("SecretBuyers$Wrong", "fault", "I", true)
def tyX10 : Nat → FieldType := fun k => match k with
  | 0 => .object "java/lang/Throwable"
  | 1 => .array (.object "java/lang/StackTraceElement")
  | 2 => .object "java/util/List"
  | 3 => .object "java/lang/String"
  | 4 => .object "java/lang/Object"
  | 5 => .int
  | _ => .int
abbrev wsX100 : List Cond := u_ws RX10 TX10 7
theorem nmX10 : ∀ a, a < 7 → ∀ b, b < 7 → a ≠ b → (TX10 a).2.1 ≠ (TX10 b).2.1 := by decide +kernel
theorem tyX10_ok : ∀ k, k < 7 → parseFieldDescriptor (TX10 k).2.2.1 = some (tyX10 k) := by decide +kernel
abbrev cX10_init : ByteArray := prog_19_method_1_code
def yX10_init : MethodName := ⟨RX10, "<init>", "(II)V"⟩
def dkwX10_init_0 : List UInt8 := [42, 1, 1, 3, 3, 183, 0, 1, 42, 27, 16, 16, 28, 104, 96, 181, 0, 7, 177]
abbrev dktX10_init_0 : List UInt8 := dkwX10_init_0 ++ []
theorem dksX10_init_0 : cX10_init.data.toList.drop 0 = dktX10_init_0 := by decide +kernel
theorem dX10_init_0 : decode cX10_init 0 = .ok (.aload_n 0, 1) := dk_42 (dk_at dksX10_init_0 0 rfl rfl)
theorem dX10_init_1 : decode cX10_init 1 = .ok (.aconst_null, 1) := dk_1 (dk_at dksX10_init_0 1 rfl rfl)
theorem dX10_init_2 : decode cX10_init 2 = .ok (.aconst_null, 1) := dk_1 (dk_at dksX10_init_0 2 rfl rfl)
theorem dX10_init_3 : decode cX10_init 3 = .ok (.iconst 0, 1) := dk_3 (dk_at dksX10_init_0 3 rfl rfl)
theorem dX10_init_4 : decode cX10_init 4 = .ok (.iconst 0, 1) := dk_3 (dk_at dksX10_init_0 4 rfl rfl)
theorem dX10_init_5 : decode cX10_init 5 = .ok (.invokespecial 1, 3) := dk_183 0 1 (dk_at dksX10_init_0 5 rfl rfl)
theorem dX10_init_8 : decode cX10_init 8 = .ok (.aload_n 0, 1) := dk_42 (dk_at dksX10_init_0 8 rfl rfl)
theorem dX10_init_9 : decode cX10_init 9 = .ok (.iload_n 1, 1) := dk_27 (dk_at dksX10_init_0 9 rfl rfl)
theorem dX10_init_10 : decode cX10_init 10 = .ok (.bipush 16, 2) := dk_16 16 (dk_at dksX10_init_0 10 rfl rfl)
theorem dX10_init_12 : decode cX10_init 12 = .ok (.iload_n 2, 1) := dk_28 (dk_at dksX10_init_0 12 rfl rfl)
theorem dX10_init_13 : decode cX10_init 13 = .ok (.imul, 1) := dk_104 (dk_at dksX10_init_0 13 rfl rfl)
theorem dX10_init_14 : decode cX10_init 14 = .ok (.iadd, 1) := dk_96 (dk_at dksX10_init_0 14 rfl rfl)
theorem dX10_init_15 : decode cX10_init 15 = .ok (.putfield 7, 3) := dk_181 0 7 (dk_at dksX10_init_0 15 rfl rfl)
theorem dX10_init_18 : decode cX10_init 18 = .ok (.return_, 1) := dk_177 (dk_at dksX10_init_0 18 rfl rfl)
theorem q119 : (Jvm.Cond.initialized "SecretBuyers$Wrong") ∈ lw_all := lw_g (lw_at lw_m1 26 rfl) rfl
theorem q439 : (Jvm.Cond.selects "SecretBuyers$Wrong" ({ cls := "java/lang/Object", name := "getClass", desc := "()Ljava/lang/Class;" } : Jvm.MethodName) ({ cls := "java/lang/Object", name := "getClass", desc := "()Ljava/lang/Class;" } : Jvm.MethodName)) ∈ lw_all := lw_g (lw_at lw_m2 106 rfl) rfl
theorem q771 : (Jvm.Cond.instantiable "SecretBuyers$Wrong" (7 : Nat)) ∈ lw_all := lw_g (lw_at lw_m3 198 rfl) rfl
theorem q772 : (Jvm.Cond.castable "SecretBuyers$Wrong" "SecretBuyers$Wrong") ∈ lw_tbl := lw_at lw_m3 199 rfl
theorem q779 : (Jvm.Cond.selects "SecretBuyers$Wrong" ({ cls := "java/lang/Throwable", name := "fillInStackTrace", desc := "(I)Ljava/lang/Throwable;" } : Jvm.MethodName) ({ cls := "java/lang/Throwable", name := "fillInStackTrace", desc := "(I)Ljava/lang/Throwable;" } : Jvm.MethodName)) ∈ lw_all := lw_g (lw_at lw_m3 206 rfl) rfl
theorem q780 : (Jvm.Cond.selects "SecretBuyers$Wrong" ({ cls := "java/lang/Throwable", name := "fillInStackTrace", desc := "()Ljava/lang/Throwable;" } : Jvm.MethodName) ({ cls := "java/lang/Throwable", name := "fillInStackTrace", desc := "()Ljava/lang/Throwable;" } : Jvm.MethodName)) ∈ lw_all := lw_g (lw_at lw_m3 207 rfl) rfl
theorem q781 : (Jvm.Cond.lays "SecretBuyers$Wrong" "java/lang/Throwable" "cause" "Ljava/lang/Throwable;") ∈ lw_all := lw_g (lw_at lw_m3 208 rfl) rfl
theorem q783 : (Jvm.Cond.lays "SecretBuyers$Wrong" "java/lang/Throwable" "stackTrace" "[Ljava/lang/StackTraceElement;") ∈ lw_all := lw_g (lw_at lw_m3 210 rfl) rfl
theorem q785 : (Jvm.Cond.lays "SecretBuyers$Wrong" "java/lang/Throwable" "suppressedExceptions" "Ljava/util/List;") ∈ lw_all := lw_g (lw_at lw_m3 212 rfl) rfl
theorem q787 : (Jvm.Cond.lays "SecretBuyers$Wrong" "java/lang/Throwable" "detailMessage" "Ljava/lang/String;") ∈ lw_all := lw_g (lw_at lw_m3 214 rfl) rfl
theorem q789 : (Jvm.Cond.lays "SecretBuyers$Wrong" "java/lang/Throwable" "backtrace" "Ljava/lang/Object;") ∈ lw_all := lw_g (lw_at lw_m3 216 rfl) rfl
theorem q811 : (Jvm.Cond.instanceMethod ({ cls := "SecretBuyers$Wrong", name := "<init>", desc := "(II)V" } : Jvm.MethodName)) ∈ lw_all := lw_g (lw_at lw_m3 238 rfl) rfl
theorem q812 : (Jvm.Cond.code ({ cls := "SecretBuyers$Wrong", name := "<init>", desc := "(II)V" } : Jvm.MethodName) prog_19_method_1_code (3 : Nat) (Option.none : Option Jvm.ClassFile.FieldType)) ∈ lw_all := lw_g (lw_at lw_m3 239 rfl) rfl
theorem q813 : (Jvm.Cond.methodLink "SecretBuyers$Wrong" (1 : Nat) ({ cls := "java/lang/RuntimeException", name := "<init>", desc := "(Ljava/lang/String;Ljava/lang/Throwable;ZZ)V" } : Jvm.MethodName)) ∈ lw_all := lw_g (lw_at lw_m4 0 rfl) rfl
theorem q822 : (Jvm.Cond.fieldLink "SecretBuyers$Wrong" (7 : Nat) "SecretBuyers$Wrong" "fault" "I") ∈ lw_all := lw_g (lw_at lw_m4 9 rfl) rfl
theorem q829 : (Jvm.Cond.laysFinal "SecretBuyers$Wrong" "SecretBuyers$Wrong" "fault" "I") ∈ lw_all := lw_g (lw_at lw_m4 16 rfl) rfl
theorem q830 : (Jvm.Cond.soleField "SecretBuyers$Wrong" "fault") ∈ lw_all := lw_g (lw_at lw_m4 17 rfl) rfl
theorem q835 : (Jvm.Cond.lays "SecretBuyers$Wrong" "java/lang/Throwable" "depth" "I") ∈ lw_all := lw_g (lw_at lw_m4 22 rfl) rfl
theorem q838 : (Jvm.Cond.superclass "SecretBuyers$Wrong" "java/lang/RuntimeException") ∈ lw_all := lw_g (lw_at lw_m4 25 rfl) rfl
theorem q1028 : (Jvm.Cond.selects "SecretBuyers$Wrong" ({ cls := "java/lang/Object", name := "equals", desc := "(Ljava/lang/Object;)Z" } : Jvm.MethodName) ({ cls := "java/lang/Object", name := "equals", desc := "(Ljava/lang/Object;)Z" } : Jvm.MethodName)) ∈ lw_all := lw_g (lw_at lw_m4 215 rfl) rfl
theorem q2176 : (Jvm.Cond.castable "SecretBuyers$Wrong" "java/lang/Object") ∈ lw_tbl := lw_at lw_m9 163 rfl
theorem in_X10 : ∀ w ∈ wsX100, w ∈ lw_all := lw_in wsX100 [781, 783, 785, 787, 789, 835, 829] (by decide +kernel) (by decide +kernel)
/-! SecretBuyers$Exp -/
set_option maxRecDepth 100000
def RX11 : String := "SecretBuyers$Exp"
abbrev cX11_init : ByteArray := prog_9_method_1_code
def yX11_init : MethodName := ⟨RX11, "<init>", "()V"⟩
theorem dX11_init_0 : decode cX11_init 0 = .ok (.aload_n 0, 1) := by decide +kernel
theorem dX11_init_1 : decode cX11_init 1 = .ok (.invokespecial 1, 3) := by decide +kernel
theorem dX11_init_4 : decode cX11_init 4 = .ok (.return_, 1) := by decide +kernel
theorem q122 : (Jvm.Cond.initialized "SecretBuyers$Exp") ∈ lw_all := lw_g (lw_at lw_m1 29 rfl) rfl
theorem q1081 : (Jvm.Cond.instanceMethod ({ cls := "SecretBuyers$Exp", name := "<init>", desc := "()V" } : Jvm.MethodName)) ∈ lw_all := lw_g (lw_at lw_m5 28 rfl) rfl
theorem q1082 : (Jvm.Cond.code ({ cls := "SecretBuyers$Exp", name := "<init>", desc := "()V" } : Jvm.MethodName) prog_9_method_1_code (1 : Nat) (Option.none : Option Jvm.ClassFile.FieldType)) ∈ lw_all := lw_g (lw_at lw_m5 29 rfl) rfl
theorem q1083 : (Jvm.Cond.methodLink "SecretBuyers$Exp" (1 : Nat) ({ cls := "java/lang/Object", name := "<init>", desc := "()V" } : Jvm.MethodName)) ∈ lw_all := lw_g (lw_at lw_m5 30 rfl) rfl
theorem q1255 : (Jvm.Cond.declares ({ cls := "SecretBuyers$Exp", name := "value", desc := "(LSecretBuyers$Ask;)I" } : Jvm.MethodName)) ∈ lw_tbl := lw_at lw_m5 202 rfl
theorem q1256 : (Jvm.Cond.sameMethod "SecretBuyers$Exp" "SecretBuyers$Exp" "value" "(LSecretBuyers$Ask;)I") ∈ lw_all := lw_g (lw_at lw_m5 203 rfl) rfl
/-! SecretBuyers$About -/
set_option maxRecDepth 100000
def RX12 : String := "SecretBuyers$About"
def TX12 : u_T := fun k => match k with
  | _ => ("SecretBuyers$About", "what", "I", true)
def tyX12 : Nat → FieldType := fun k => match k with
  | _ => .int
abbrev wsX120 : List Cond := u_ws RX12 TX12 1
theorem nmX12 : ∀ a, a < 1 → ∀ b, b < 1 → a ≠ b → (TX12 a).2.1 ≠ (TX12 b).2.1 := by decide +kernel
theorem tyX12_ok : ∀ k, k < 1 → parseFieldDescriptor (TX12 k).2.2.1 = some (tyX12 k) := by decide +kernel
abbrev cX12_init : ByteArray := prog_2_method_1_code
def yX12_init : MethodName := ⟨RX12, "<init>", "(I)V"⟩
def dkwX12_init_0 : List UInt8 := [42, 183, 0, 1, 42, 27, 181, 0, 7, 177]
abbrev dktX12_init_0 : List UInt8 := dkwX12_init_0 ++ []
theorem dksX12_init_0 : cX12_init.data.toList.drop 0 = dktX12_init_0 := by decide +kernel
theorem dX12_init_0 : decode cX12_init 0 = .ok (.aload_n 0, 1) := dk_42 (dk_at dksX12_init_0 0 rfl rfl)
theorem dX12_init_1 : decode cX12_init 1 = .ok (.invokespecial 1, 3) := dk_183 0 1 (dk_at dksX12_init_0 1 rfl rfl)
theorem dX12_init_4 : decode cX12_init 4 = .ok (.aload_n 0, 1) := dk_42 (dk_at dksX12_init_0 4 rfl rfl)
theorem dX12_init_5 : decode cX12_init 5 = .ok (.iload_n 1, 1) := dk_27 (dk_at dksX12_init_0 5 rfl rfl)
theorem dX12_init_6 : decode cX12_init 6 = .ok (.putfield 7, 3) := dk_181 0 7 (dk_at dksX12_init_0 6 rfl rfl)
theorem dX12_init_9 : decode cX12_init 9 = .ok (.return_, 1) := dk_177 (dk_at dksX12_init_0 9 rfl rfl)
abbrev cX12_value : ByteArray := prog_2_method_2_code
def yX12_value : MethodName := ⟨RX12, "value", "(LSecretBuyers$Ask;)I"⟩
def dkwX12_value_0 : List UInt8 := [43, 180, 0, 13, 42, 180, 0, 7, 46, 172]
abbrev dktX12_value_0 : List UInt8 := dkwX12_value_0 ++ []
theorem dksX12_value_0 : cX12_value.data.toList.drop 0 = dktX12_value_0 := by decide +kernel
theorem dX12_value_0 : decode cX12_value 0 = .ok (.aload_n 1, 1) := dk_43 (dk_at dksX12_value_0 0 rfl rfl)
theorem dX12_value_1 : decode cX12_value 1 = .ok (.getfield 13, 3) := dk_180 0 13 (dk_at dksX12_value_0 1 rfl rfl)
theorem dX12_value_4 : decode cX12_value 4 = .ok (.aload_n 0, 1) := dk_42 (dk_at dksX12_value_0 4 rfl rfl)
theorem dX12_value_5 : decode cX12_value 5 = .ok (.getfield 7, 3) := dk_180 0 7 (dk_at dksX12_value_0 5 rfl rfl)
theorem dX12_value_8 : decode cX12_value 8 = .ok (.iaload, 1) := dk_46 (dk_at dksX12_value_0 8 rfl rfl)
theorem dX12_value_9 : decode cX12_value 9 = .ok (.ireturn, 1) := dk_172 (dk_at dksX12_value_0 9 rfl rfl)
theorem q123 : (Jvm.Cond.initialized "SecretBuyers$About") ∈ lw_all := lw_g (lw_at lw_m1 30 rfl) rfl
theorem q218 : (Jvm.Cond.fieldLinkNest "SecretBuyers$About" (13 : Nat) "SecretBuyers$Ask" "value" "[I" "SecretBuyers") ∈ lw_tbl := lw_at lw_m1 125 rfl
theorem q424 : (Jvm.Cond.selects "SecretBuyers$About" ({ cls := "java/lang/Object", name := "getClass", desc := "()Ljava/lang/Class;" } : Jvm.MethodName) ({ cls := "java/lang/Object", name := "getClass", desc := "()Ljava/lang/Class;" } : Jvm.MethodName)) ∈ lw_all := lw_g (lw_at lw_m2 91 rfl) rfl
theorem q1013 : (Jvm.Cond.selects "SecretBuyers$About" ({ cls := "java/lang/Object", name := "equals", desc := "(Ljava/lang/Object;)Z" } : Jvm.MethodName) ({ cls := "java/lang/Object", name := "equals", desc := "(Ljava/lang/Object;)Z" } : Jvm.MethodName)) ∈ lw_all := lw_g (lw_at lw_m4 200 rfl) rfl
theorem q1072 : (Jvm.Cond.instantiable "SecretBuyers$About" (1 : Nat)) ∈ lw_all := lw_g (lw_at lw_m5 19 rfl) rfl
theorem q1078 : (Jvm.Cond.instanceMethod ({ cls := "SecretBuyers$About", name := "<init>", desc := "(I)V" } : Jvm.MethodName)) ∈ lw_all := lw_g (lw_at lw_m5 25 rfl) rfl
theorem q1079 : (Jvm.Cond.code ({ cls := "SecretBuyers$About", name := "<init>", desc := "(I)V" } : Jvm.MethodName) prog_2_method_1_code (2 : Nat) (Option.none : Option Jvm.ClassFile.FieldType)) ∈ lw_all := lw_g (lw_at lw_m5 26 rfl) rfl
theorem q1080 : (Jvm.Cond.methodLinkNest "SecretBuyers$About" (1 : Nat) ({ cls := "SecretBuyers$Exp", name := "<init>", desc := "()V" } : Jvm.MethodName) "SecretBuyers") ∈ lw_tbl := lw_at lw_m5 27 rfl
theorem q1084 : (Jvm.Cond.fieldLink "SecretBuyers$About" (7 : Nat) "SecretBuyers$About" "what" "I") ∈ lw_all := lw_g (lw_at lw_m5 31 rfl) rfl
theorem q1085 : (Jvm.Cond.laysFinal "SecretBuyers$About" "SecretBuyers$About" "what" "I") ∈ lw_all := lw_g (lw_at lw_m5 32 rfl) rfl
theorem q1086 : (Jvm.Cond.soleField "SecretBuyers$About" "what") ∈ lw_all := lw_g (lw_at lw_m5 33 rfl) rfl
theorem q1087 : (Jvm.Cond.superclass "SecretBuyers$About" "SecretBuyers$Exp") ∈ lw_all := lw_g (lw_at lw_m5 34 rfl) rfl
theorem q1257 : (Jvm.Cond.selects "SecretBuyers$About" ({ cls := "SecretBuyers$Exp", name := "value", desc := "(LSecretBuyers$Ask;)I" } : Jvm.MethodName) ({ cls := "SecretBuyers$About", name := "value", desc := "(LSecretBuyers$Ask;)I" } : Jvm.MethodName)) ∈ lw_all := lw_g (lw_at lw_m5 204 rfl) rfl
theorem q1258 : (Jvm.Cond.instanceMethod ({ cls := "SecretBuyers$About", name := "value", desc := "(LSecretBuyers$Ask;)I" } : Jvm.MethodName)) ∈ lw_all := lw_g (lw_at lw_m5 205 rfl) rfl
theorem q1259 : (Jvm.Cond.code ({ cls := "SecretBuyers$About", name := "value", desc := "(LSecretBuyers$Ask;)I" } : Jvm.MethodName) prog_2_method_2_code (2 : Nat) (Option.some Jvm.ClassFile.FieldType.int)) ∈ lw_all := lw_g (lw_at lw_m5 206 rfl) rfl
theorem q2158 : (Jvm.Cond.castable "SecretBuyers$About" "SecretBuyers$Exp") ∈ lw_tbl := lw_at lw_m9 145 rfl
theorem q2179 : (Jvm.Cond.castable "SecretBuyers$About" "java/lang/Object") ∈ lw_tbl := lw_at lw_m9 166 rfl
theorem in_X12 : ∀ w ∈ wsX120, w ∈ lw_all := lw_in wsX120 [1085] (by decide +kernel) (by decide +kernel)
/-! SecretBuyers$Named -/
set_option maxRecDepth 100000
def RX13 : String := "SecretBuyers$Named"
def TX13 : u_T := fun k => match k with
  | _ => ("SecretBuyers$Named", "k", "I", true)
def tyX13 : Nat → FieldType := fun k => match k with
  | _ => .int
abbrev wsX130 : List Cond := u_ws RX13 TX13 1
theorem nmX13 : ∀ a, a < 1 → ∀ b, b < 1 → a ≠ b → (TX13 a).2.1 ≠ (TX13 b).2.1 := by decide +kernel
theorem tyX13_ok : ∀ k, k < 1 → parseFieldDescriptor (TX13 k).2.2.1 = some (tyX13 k) := by decide +kernel
abbrev cX13_init : ByteArray := prog_12_method_1_code
def yX13_init : MethodName := ⟨RX13, "<init>", "(I)V"⟩
def dkwX13_init_0 : List UInt8 := [42, 183, 0, 1, 42, 27, 181, 0, 7, 177]
abbrev dktX13_init_0 : List UInt8 := dkwX13_init_0 ++ []
theorem dksX13_init_0 : cX13_init.data.toList.drop 0 = dktX13_init_0 := by decide +kernel
theorem dX13_init_0 : decode cX13_init 0 = .ok (.aload_n 0, 1) := dk_42 (dk_at dksX13_init_0 0 rfl rfl)
theorem dX13_init_1 : decode cX13_init 1 = .ok (.invokespecial 1, 3) := dk_183 0 1 (dk_at dksX13_init_0 1 rfl rfl)
theorem dX13_init_4 : decode cX13_init 4 = .ok (.aload_n 0, 1) := dk_42 (dk_at dksX13_init_0 4 rfl rfl)
theorem dX13_init_5 : decode cX13_init 5 = .ok (.iload_n 1, 1) := dk_27 (dk_at dksX13_init_0 5 rfl rfl)
theorem dX13_init_6 : decode cX13_init 6 = .ok (.putfield 7, 3) := dk_181 0 7 (dk_at dksX13_init_0 6 rfl rfl)
theorem dX13_init_9 : decode cX13_init 9 = .ok (.return_, 1) := dk_177 (dk_at dksX13_init_0 9 rfl rfl)
abbrev cX13_value : ByteArray := prog_12_method_2_code
def yX13_value : MethodName := ⟨RX13, "value", "(LSecretBuyers$Ask;)I"⟩
def dkwX13_value_0 : List UInt8 := [43, 180, 0, 13, 42, 180, 0, 7, 46, 172]
abbrev dktX13_value_0 : List UInt8 := dkwX13_value_0 ++ []
theorem dksX13_value_0 : cX13_value.data.toList.drop 0 = dktX13_value_0 := by decide +kernel
theorem dX13_value_0 : decode cX13_value 0 = .ok (.aload_n 1, 1) := dk_43 (dk_at dksX13_value_0 0 rfl rfl)
theorem dX13_value_1 : decode cX13_value 1 = .ok (.getfield 13, 3) := dk_180 0 13 (dk_at dksX13_value_0 1 rfl rfl)
theorem dX13_value_4 : decode cX13_value 4 = .ok (.aload_n 0, 1) := dk_42 (dk_at dksX13_value_0 4 rfl rfl)
theorem dX13_value_5 : decode cX13_value 5 = .ok (.getfield 7, 3) := dk_180 0 7 (dk_at dksX13_value_0 5 rfl rfl)
theorem dX13_value_8 : decode cX13_value 8 = .ok (.iaload, 1) := dk_46 (dk_at dksX13_value_0 8 rfl rfl)
theorem dX13_value_9 : decode cX13_value 9 = .ok (.ireturn, 1) := dk_172 (dk_at dksX13_value_0 9 rfl rfl)
theorem q124 : (Jvm.Cond.initialized "SecretBuyers$Named") ∈ lw_all := lw_g (lw_at lw_m1 31 rfl) rfl
theorem q220 : (Jvm.Cond.fieldLinkNest "SecretBuyers$Named" (13 : Nat) "SecretBuyers$Ask" "name" "[I" "SecretBuyers") ∈ lw_tbl := lw_at lw_m1 127 rfl
theorem q432 : (Jvm.Cond.selects "SecretBuyers$Named" ({ cls := "java/lang/Object", name := "getClass", desc := "()Ljava/lang/Class;" } : Jvm.MethodName) ({ cls := "java/lang/Object", name := "getClass", desc := "()Ljava/lang/Class;" } : Jvm.MethodName)) ∈ lw_all := lw_g (lw_at lw_m2 99 rfl) rfl
theorem q1021 : (Jvm.Cond.selects "SecretBuyers$Named" ({ cls := "java/lang/Object", name := "equals", desc := "(Ljava/lang/Object;)Z" } : Jvm.MethodName) ({ cls := "java/lang/Object", name := "equals", desc := "(Ljava/lang/Object;)Z" } : Jvm.MethodName)) ∈ lw_all := lw_g (lw_at lw_m4 208 rfl) rfl
theorem q1089 : (Jvm.Cond.instantiable "SecretBuyers$Named" (1 : Nat)) ∈ lw_all := lw_g (lw_at lw_m5 36 rfl) rfl
theorem q1091 : (Jvm.Cond.instanceMethod ({ cls := "SecretBuyers$Named", name := "<init>", desc := "(I)V" } : Jvm.MethodName)) ∈ lw_all := lw_g (lw_at lw_m5 38 rfl) rfl
theorem q1092 : (Jvm.Cond.code ({ cls := "SecretBuyers$Named", name := "<init>", desc := "(I)V" } : Jvm.MethodName) prog_12_method_1_code (2 : Nat) (Option.none : Option Jvm.ClassFile.FieldType)) ∈ lw_all := lw_g (lw_at lw_m5 39 rfl) rfl
theorem q1093 : (Jvm.Cond.methodLinkNest "SecretBuyers$Named" (1 : Nat) ({ cls := "SecretBuyers$Exp", name := "<init>", desc := "()V" } : Jvm.MethodName) "SecretBuyers") ∈ lw_tbl := lw_at lw_m5 40 rfl
theorem q1094 : (Jvm.Cond.fieldLink "SecretBuyers$Named" (7 : Nat) "SecretBuyers$Named" "k" "I") ∈ lw_all := lw_g (lw_at lw_m5 41 rfl) rfl
theorem q1095 : (Jvm.Cond.laysFinal "SecretBuyers$Named" "SecretBuyers$Named" "k" "I") ∈ lw_all := lw_g (lw_at lw_m5 42 rfl) rfl
theorem q1096 : (Jvm.Cond.soleField "SecretBuyers$Named" "k") ∈ lw_all := lw_g (lw_at lw_m5 43 rfl) rfl
theorem q1097 : (Jvm.Cond.superclass "SecretBuyers$Named" "SecretBuyers$Exp") ∈ lw_all := lw_g (lw_at lw_m5 44 rfl) rfl
theorem q1263 : (Jvm.Cond.selects "SecretBuyers$Named" ({ cls := "SecretBuyers$Exp", name := "value", desc := "(LSecretBuyers$Ask;)I" } : Jvm.MethodName) ({ cls := "SecretBuyers$Named", name := "value", desc := "(LSecretBuyers$Ask;)I" } : Jvm.MethodName)) ∈ lw_all := lw_g (lw_at lw_m5 210 rfl) rfl
theorem q1264 : (Jvm.Cond.instanceMethod ({ cls := "SecretBuyers$Named", name := "value", desc := "(LSecretBuyers$Ask;)I" } : Jvm.MethodName)) ∈ lw_all := lw_g (lw_at lw_m5 211 rfl) rfl
theorem q1265 : (Jvm.Cond.code ({ cls := "SecretBuyers$Named", name := "value", desc := "(LSecretBuyers$Ask;)I" } : Jvm.MethodName) prog_12_method_2_code (2 : Nat) (Option.some Jvm.ClassFile.FieldType.int)) ∈ lw_all := lw_g (lw_at lw_m5 212 rfl) rfl
theorem q2160 : (Jvm.Cond.castable "SecretBuyers$Named" "SecretBuyers$Exp") ∈ lw_tbl := lw_at lw_m9 147 rfl
theorem q2180 : (Jvm.Cond.castable "SecretBuyers$Named" "java/lang/Object") ∈ lw_tbl := lw_at lw_m9 167 rfl
theorem in_X13 : ∀ w ∈ wsX130, w ∈ lw_all := lw_in wsX130 [1095] (by decide +kernel) (by decide +kernel)
/-! SecretBuyers$Constant -/
set_option maxRecDepth 100000
def RX14 : String := "SecretBuyers$Constant"
def TX14 : u_T := fun k => match k with
  | _ => ("SecretBuyers$Constant", "v", "I", true)
def tyX14 : Nat → FieldType := fun k => match k with
  | _ => .int
abbrev wsX140 : List Cond := u_ws RX14 TX14 1
theorem nmX14 : ∀ a, a < 1 → ∀ b, b < 1 → a ≠ b → (TX14 a).2.1 ≠ (TX14 b).2.1 := by decide +kernel
theorem tyX14_ok : ∀ k, k < 1 → parseFieldDescriptor (TX14 k).2.2.1 = some (tyX14 k) := by decide +kernel
abbrev cX14_init : ByteArray := prog_8_method_1_code
def yX14_init : MethodName := ⟨RX14, "<init>", "(I)V"⟩
def dkwX14_init_0 : List UInt8 := [42, 183, 0, 1, 42, 27, 181, 0, 7, 177]
abbrev dktX14_init_0 : List UInt8 := dkwX14_init_0 ++ []
theorem dksX14_init_0 : cX14_init.data.toList.drop 0 = dktX14_init_0 := by decide +kernel
theorem dX14_init_0 : decode cX14_init 0 = .ok (.aload_n 0, 1) := dk_42 (dk_at dksX14_init_0 0 rfl rfl)
theorem dX14_init_1 : decode cX14_init 1 = .ok (.invokespecial 1, 3) := dk_183 0 1 (dk_at dksX14_init_0 1 rfl rfl)
theorem dX14_init_4 : decode cX14_init 4 = .ok (.aload_n 0, 1) := dk_42 (dk_at dksX14_init_0 4 rfl rfl)
theorem dX14_init_5 : decode cX14_init 5 = .ok (.iload_n 1, 1) := dk_27 (dk_at dksX14_init_0 5 rfl rfl)
theorem dX14_init_6 : decode cX14_init 6 = .ok (.putfield 7, 3) := dk_181 0 7 (dk_at dksX14_init_0 6 rfl rfl)
theorem dX14_init_9 : decode cX14_init 9 = .ok (.return_, 1) := dk_177 (dk_at dksX14_init_0 9 rfl rfl)
abbrev cX14_value : ByteArray := prog_8_method_2_code
def yX14_value : MethodName := ⟨RX14, "value", "(LSecretBuyers$Ask;)I"⟩
theorem dX14_value_0 : decode cX14_value 0 = .ok (.aload_n 0, 1) := by decide +kernel
theorem dX14_value_1 : decode cX14_value 1 = .ok (.getfield 7, 3) := by decide +kernel
theorem dX14_value_4 : decode cX14_value 4 = .ok (.ireturn, 1) := by decide +kernel
theorem q125 : (Jvm.Cond.initialized "SecretBuyers$Constant") ∈ lw_all := lw_g (lw_at lw_m1 32 rfl) rfl
theorem q430 : (Jvm.Cond.selects "SecretBuyers$Constant" ({ cls := "java/lang/Object", name := "getClass", desc := "()Ljava/lang/Class;" } : Jvm.MethodName) ({ cls := "java/lang/Object", name := "getClass", desc := "()Ljava/lang/Class;" } : Jvm.MethodName)) ∈ lw_all := lw_g (lw_at lw_m2 97 rfl) rfl
theorem q1019 : (Jvm.Cond.selects "SecretBuyers$Constant" ({ cls := "java/lang/Object", name := "equals", desc := "(Ljava/lang/Object;)Z" } : Jvm.MethodName) ({ cls := "java/lang/Object", name := "equals", desc := "(Ljava/lang/Object;)Z" } : Jvm.MethodName)) ∈ lw_all := lw_g (lw_at lw_m4 206 rfl) rfl
theorem q1099 : (Jvm.Cond.instantiable "SecretBuyers$Constant" (1 : Nat)) ∈ lw_all := lw_g (lw_at lw_m5 46 rfl) rfl
theorem q1101 : (Jvm.Cond.instanceMethod ({ cls := "SecretBuyers$Constant", name := "<init>", desc := "(I)V" } : Jvm.MethodName)) ∈ lw_all := lw_g (lw_at lw_m5 48 rfl) rfl
theorem q1102 : (Jvm.Cond.code ({ cls := "SecretBuyers$Constant", name := "<init>", desc := "(I)V" } : Jvm.MethodName) prog_8_method_1_code (2 : Nat) (Option.none : Option Jvm.ClassFile.FieldType)) ∈ lw_all := lw_g (lw_at lw_m5 49 rfl) rfl
theorem q1103 : (Jvm.Cond.methodLinkNest "SecretBuyers$Constant" (1 : Nat) ({ cls := "SecretBuyers$Exp", name := "<init>", desc := "()V" } : Jvm.MethodName) "SecretBuyers") ∈ lw_tbl := lw_at lw_m5 50 rfl
theorem q1104 : (Jvm.Cond.fieldLink "SecretBuyers$Constant" (7 : Nat) "SecretBuyers$Constant" "v" "I") ∈ lw_all := lw_g (lw_at lw_m5 51 rfl) rfl
theorem q1105 : (Jvm.Cond.laysFinal "SecretBuyers$Constant" "SecretBuyers$Constant" "v" "I") ∈ lw_all := lw_g (lw_at lw_m5 52 rfl) rfl
theorem q1106 : (Jvm.Cond.soleField "SecretBuyers$Constant" "v") ∈ lw_all := lw_g (lw_at lw_m5 53 rfl) rfl
theorem q1107 : (Jvm.Cond.superclass "SecretBuyers$Constant" "SecretBuyers$Exp") ∈ lw_all := lw_g (lw_at lw_m5 54 rfl) rfl
theorem q1260 : (Jvm.Cond.selects "SecretBuyers$Constant" ({ cls := "SecretBuyers$Exp", name := "value", desc := "(LSecretBuyers$Ask;)I" } : Jvm.MethodName) ({ cls := "SecretBuyers$Constant", name := "value", desc := "(LSecretBuyers$Ask;)I" } : Jvm.MethodName)) ∈ lw_all := lw_g (lw_at lw_m5 207 rfl) rfl
theorem q1261 : (Jvm.Cond.instanceMethod ({ cls := "SecretBuyers$Constant", name := "value", desc := "(LSecretBuyers$Ask;)I" } : Jvm.MethodName)) ∈ lw_all := lw_g (lw_at lw_m5 208 rfl) rfl
theorem q1262 : (Jvm.Cond.code ({ cls := "SecretBuyers$Constant", name := "value", desc := "(LSecretBuyers$Ask;)I" } : Jvm.MethodName) prog_8_method_2_code (2 : Nat) (Option.some Jvm.ClassFile.FieldType.int)) ∈ lw_all := lw_g (lw_at lw_m5 209 rfl) rfl
theorem q2159 : (Jvm.Cond.castable "SecretBuyers$Constant" "SecretBuyers$Exp") ∈ lw_tbl := lw_at lw_m9 146 rfl
theorem q2181 : (Jvm.Cond.castable "SecretBuyers$Constant" "java/lang/Object") ∈ lw_tbl := lw_at lw_m9 168 rfl
theorem in_X14 : ∀ w ∈ wsX140, w ∈ lw_all := lw_in wsX140 [1105] (by decide +kernel) (by decide +kernel)
/-! SecretBuyers$Not -/
set_option maxRecDepth 100000
def RX15 : String := "SecretBuyers$Not"
def TX15 : u_T := fun k => match k with
  | _ => ("SecretBuyers$Not", "e", "LSecretBuyers$Exp;", true)
def tyX15 : Nat → FieldType := fun k => match k with
  | _ => .object "SecretBuyers$Exp"
abbrev wsX150 : List Cond := u_ws RX15 TX15 1
theorem nmX15 : ∀ a, a < 1 → ∀ b, b < 1 → a ≠ b → (TX15 a).2.1 ≠ (TX15 b).2.1 := by decide +kernel
theorem tyX15_ok : ∀ k, k < 1 → parseFieldDescriptor (TX15 k).2.2.1 = some (tyX15 k) := by decide +kernel
abbrev cX15_init : ByteArray := prog_13_method_1_code
def yX15_init : MethodName := ⟨RX15, "<init>", "(LSecretBuyers$Exp;)V"⟩
def dkwX15_init_0 : List UInt8 := [42, 183, 0, 1, 42, 43, 181, 0, 7, 177]
abbrev dktX15_init_0 : List UInt8 := dkwX15_init_0 ++ []
theorem dksX15_init_0 : cX15_init.data.toList.drop 0 = dktX15_init_0 := by decide +kernel
theorem dX15_init_0 : decode cX15_init 0 = .ok (.aload_n 0, 1) := dk_42 (dk_at dksX15_init_0 0 rfl rfl)
theorem dX15_init_1 : decode cX15_init 1 = .ok (.invokespecial 1, 3) := dk_183 0 1 (dk_at dksX15_init_0 1 rfl rfl)
theorem dX15_init_4 : decode cX15_init 4 = .ok (.aload_n 0, 1) := dk_42 (dk_at dksX15_init_0 4 rfl rfl)
theorem dX15_init_5 : decode cX15_init 5 = .ok (.aload_n 1, 1) := dk_43 (dk_at dksX15_init_0 5 rfl rfl)
theorem dX15_init_6 : decode cX15_init 6 = .ok (.putfield 7, 3) := dk_181 0 7 (dk_at dksX15_init_0 6 rfl rfl)
theorem dX15_init_9 : decode cX15_init 9 = .ok (.return_, 1) := dk_177 (dk_at dksX15_init_0 9 rfl rfl)
abbrev cX15_value : ByteArray := prog_13_method_2_code
def yX15_value : MethodName := ⟨RX15, "value", "(LSecretBuyers$Ask;)I"⟩
def dkwX15_value_0 : List UInt8 := [42, 180, 0, 7, 43, 182, 0, 13, 154, 0, 7, 4, 167, 0, 4, 3, 172]
abbrev dktX15_value_0 : List UInt8 := dkwX15_value_0 ++ []
theorem dksX15_value_0 : cX15_value.data.toList.drop 0 = dktX15_value_0 := by decide +kernel
theorem dX15_value_0 : decode cX15_value 0 = .ok (.aload_n 0, 1) := dk_42 (dk_at dksX15_value_0 0 rfl rfl)
theorem dX15_value_1 : decode cX15_value 1 = .ok (.getfield 7, 3) := dk_180 0 7 (dk_at dksX15_value_0 1 rfl rfl)
theorem dX15_value_4 : decode cX15_value 4 = .ok (.aload_n 1, 1) := dk_43 (dk_at dksX15_value_0 4 rfl rfl)
theorem dX15_value_5 : decode cX15_value 5 = .ok (.invokevirtual 13, 3) := dk_182 0 13 (dk_at dksX15_value_0 5 rfl rfl)
theorem dX15_value_8 : decode cX15_value 8 = .ok (.ifCond .ne 7, 3) := dk_154 0 7 (dk_at dksX15_value_0 8 rfl rfl)
theorem dX15_value_11 : decode cX15_value 11 = .ok (.iconst 1, 1) := dk_4 (dk_at dksX15_value_0 11 rfl rfl)
theorem dX15_value_12 : decode cX15_value 12 = .ok (.goto 4, 3) := dk_167 0 4 (dk_at dksX15_value_0 12 rfl rfl)
theorem dX15_value_15 : decode cX15_value 15 = .ok (.iconst 0, 1) := dk_3 (dk_at dksX15_value_0 15 rfl rfl)
theorem dX15_value_16 : decode cX15_value 16 = .ok (.ireturn, 1) := dk_172 (dk_at dksX15_value_0 16 rfl rfl)
theorem q126 : (Jvm.Cond.initialized "SecretBuyers$Not") ∈ lw_all := lw_g (lw_at lw_m1 33 rfl) rfl
theorem q433 : (Jvm.Cond.selects "SecretBuyers$Not" ({ cls := "java/lang/Object", name := "getClass", desc := "()Ljava/lang/Class;" } : Jvm.MethodName) ({ cls := "java/lang/Object", name := "getClass", desc := "()Ljava/lang/Class;" } : Jvm.MethodName)) ∈ lw_all := lw_g (lw_at lw_m2 100 rfl) rfl
theorem q1022 : (Jvm.Cond.selects "SecretBuyers$Not" ({ cls := "java/lang/Object", name := "equals", desc := "(Ljava/lang/Object;)Z" } : Jvm.MethodName) ({ cls := "java/lang/Object", name := "equals", desc := "(Ljava/lang/Object;)Z" } : Jvm.MethodName)) ∈ lw_all := lw_g (lw_at lw_m4 209 rfl) rfl
theorem q1109 : (Jvm.Cond.instantiable "SecretBuyers$Not" (1 : Nat)) ∈ lw_all := lw_g (lw_at lw_m5 56 rfl) rfl
theorem q1111 : (Jvm.Cond.instanceMethod ({ cls := "SecretBuyers$Not", name := "<init>", desc := "(LSecretBuyers$Exp;)V" } : Jvm.MethodName)) ∈ lw_all := lw_g (lw_at lw_m5 58 rfl) rfl
theorem q1112 : (Jvm.Cond.code ({ cls := "SecretBuyers$Not", name := "<init>", desc := "(LSecretBuyers$Exp;)V" } : Jvm.MethodName) prog_13_method_1_code (2 : Nat) (Option.none : Option Jvm.ClassFile.FieldType)) ∈ lw_all := lw_g (lw_at lw_m5 59 rfl) rfl
theorem q1113 : (Jvm.Cond.methodLinkNest "SecretBuyers$Not" (1 : Nat) ({ cls := "SecretBuyers$Exp", name := "<init>", desc := "()V" } : Jvm.MethodName) "SecretBuyers") ∈ lw_tbl := lw_at lw_m5 60 rfl
theorem q1114 : (Jvm.Cond.fieldLink "SecretBuyers$Not" (7 : Nat) "SecretBuyers$Not" "e" "LSecretBuyers$Exp;") ∈ lw_all := lw_g (lw_at lw_m5 61 rfl) rfl
theorem q1115 : (Jvm.Cond.laysFinal "SecretBuyers$Not" "SecretBuyers$Not" "e" "LSecretBuyers$Exp;") ∈ lw_all := lw_g (lw_at lw_m5 62 rfl) rfl
theorem q1116 : (Jvm.Cond.soleField "SecretBuyers$Not" "e") ∈ lw_all := lw_g (lw_at lw_m5 63 rfl) rfl
theorem q1117 : (Jvm.Cond.superclass "SecretBuyers$Not" "SecretBuyers$Exp") ∈ lw_all := lw_g (lw_at lw_m5 64 rfl) rfl
theorem q1266 : (Jvm.Cond.selects "SecretBuyers$Not" ({ cls := "SecretBuyers$Exp", name := "value", desc := "(LSecretBuyers$Ask;)I" } : Jvm.MethodName) ({ cls := "SecretBuyers$Not", name := "value", desc := "(LSecretBuyers$Ask;)I" } : Jvm.MethodName)) ∈ lw_all := lw_g (lw_at lw_m5 213 rfl) rfl
theorem q1267 : (Jvm.Cond.instanceMethod ({ cls := "SecretBuyers$Not", name := "value", desc := "(LSecretBuyers$Ask;)I" } : Jvm.MethodName)) ∈ lw_all := lw_g (lw_at lw_m5 214 rfl) rfl
theorem q1268 : (Jvm.Cond.code ({ cls := "SecretBuyers$Not", name := "value", desc := "(LSecretBuyers$Ask;)I" } : Jvm.MethodName) prog_13_method_2_code (2 : Nat) (Option.some Jvm.ClassFile.FieldType.int)) ∈ lw_all := lw_g (lw_at lw_m5 215 rfl) rfl
theorem q1269 : (Jvm.Cond.methodLink "SecretBuyers$Not" (13 : Nat) ({ cls := "SecretBuyers$Exp", name := "value", desc := "(LSecretBuyers$Ask;)I" } : Jvm.MethodName)) ∈ lw_all := lw_g (lw_at lw_m5 216 rfl) rfl
theorem q2161 : (Jvm.Cond.castable "SecretBuyers$Not" "SecretBuyers$Exp") ∈ lw_tbl := lw_at lw_m9 148 rfl
theorem q2182 : (Jvm.Cond.castable "SecretBuyers$Not" "java/lang/Object") ∈ lw_tbl := lw_at lw_m9 169 rfl
theorem in_X15 : ∀ w ∈ wsX150, w ∈ lw_all := lw_in wsX150 [1115] (by decide +kernel) (by decide +kernel)
/-! SecretBuyers$Row -/
set_option maxRecDepth 100000
def RX16 : String := "SecretBuyers$Row"
def TX16 : u_T := fun k => match k with
  | 0 => ("SecretBuyers$Row", "operands", "Ljava/util/ArrayList;", true)
  | _ => ("SecretBuyers$Row", "signs", "Ljava/lang/StringBuilder;", true)
def tyX16 : Nat → FieldType := fun k => match k with
  | 0 => .object "java/util/ArrayList"
  | _ => .object "java/lang/StringBuilder"
abbrev wsX160 : List Cond := u_ws RX16 TX16 2
theorem nmX16 : ∀ a, a < 2 → ∀ b, b < 2 → a ≠ b → (TX16 a).2.1 ≠ (TX16 b).2.1 := by decide +kernel
theorem tyX16_ok : ∀ k, k < 2 → parseFieldDescriptor (TX16 k).2.2.1 = some (tyX16 k) := by decide +kernel
abbrev cX16_init : ByteArray := prog_16_method_1_code
def yX16_init : MethodName := ⟨RX16, "<init>", "(LSecretBuyers$Exp;)V"⟩
def dkwX16_init_1 : List UInt8 := [183, 0, 20, 181, 0, 21, 42, 180, 0, 12, 43, 182, 0, 25, 87, 177]
abbrev dktX16_init_1 : List UInt8 := dkwX16_init_1 ++ []
def dkwX16_init_0 : List UInt8 := [42, 183, 0, 1, 42, 187, 0, 7, 89, 6, 183, 0, 9, 181, 0, 12, 42, 187, 0, 18, 89, 5]
abbrev dktX16_init_0 : List UInt8 := dkwX16_init_0 ++ dktX16_init_1
theorem dksX16_init_0 : cX16_init.data.toList.drop 0 = dktX16_init_0 := by decide +kernel
theorem dksX16_init_1 : cX16_init.data.toList.drop 22 = dktX16_init_1 := dk_seg dksX16_init_0 22 rfl rfl
theorem dX16_init_0 : decode cX16_init 0 = .ok (.aload_n 0, 1) := dk_42 (dk_at dksX16_init_0 0 rfl rfl)
theorem dX16_init_1 : decode cX16_init 1 = .ok (.invokespecial 1, 3) := dk_183 0 1 (dk_at dksX16_init_0 1 rfl rfl)
theorem dX16_init_4 : decode cX16_init 4 = .ok (.aload_n 0, 1) := dk_42 (dk_at dksX16_init_0 4 rfl rfl)
theorem dX16_init_5 : decode cX16_init 5 = .ok (.new 7, 3) := dk_187 0 7 (dk_at dksX16_init_0 5 rfl rfl)
theorem dX16_init_8 : decode cX16_init 8 = .ok (.dup, 1) := dk_89 (dk_at dksX16_init_0 8 rfl rfl)
theorem dX16_init_9 : decode cX16_init 9 = .ok (.iconst 3, 1) := dk_6 (dk_at dksX16_init_0 9 rfl rfl)
theorem dX16_init_10 : decode cX16_init 10 = .ok (.invokespecial 9, 3) := dk_183 0 9 (dk_at dksX16_init_0 10 rfl rfl)
theorem dX16_init_13 : decode cX16_init 13 = .ok (.putfield 12, 3) := dk_181 0 12 (dk_at dksX16_init_0 13 rfl rfl)
theorem dX16_init_16 : decode cX16_init 16 = .ok (.aload_n 0, 1) := dk_42 (dk_at dksX16_init_0 16 rfl rfl)
theorem dX16_init_17 : decode cX16_init 17 = .ok (.new 18, 3) := dk_187 0 18 (dk_at dksX16_init_0 17 rfl rfl)
theorem dX16_init_20 : decode cX16_init 20 = .ok (.dup, 1) := dk_89 (dk_at dksX16_init_0 20 rfl rfl)
theorem dX16_init_21 : decode cX16_init 21 = .ok (.iconst 2, 1) := dk_5 (dk_at dksX16_init_0 21 rfl rfl)
theorem dX16_init_22 : decode cX16_init 22 = .ok (.invokespecial 20, 3) := dk_183 0 20 (dk_at dksX16_init_1 0 rfl rfl)
theorem dX16_init_25 : decode cX16_init 25 = .ok (.putfield 21, 3) := dk_181 0 21 (dk_at dksX16_init_1 3 rfl rfl)
theorem dX16_init_28 : decode cX16_init 28 = .ok (.aload_n 0, 1) := dk_42 (dk_at dksX16_init_1 6 rfl rfl)
theorem dX16_init_29 : decode cX16_init 29 = .ok (.getfield 12, 3) := dk_180 0 12 (dk_at dksX16_init_1 7 rfl rfl)
theorem dX16_init_32 : decode cX16_init 32 = .ok (.aload_n 1, 1) := dk_43 (dk_at dksX16_init_1 10 rfl rfl)
theorem dX16_init_33 : decode cX16_init 33 = .ok (.invokevirtual 25, 3) := dk_182 0 25 (dk_at dksX16_init_1 11 rfl rfl)
theorem dX16_init_36 : decode cX16_init 36 = .ok (.pop, 1) := dk_87 (dk_at dksX16_init_1 14 rfl rfl)
theorem dX16_init_37 : decode cX16_init 37 = .ok (.return_, 1) := dk_177 (dk_at dksX16_init_1 15 rfl rfl)
abbrev cX16_and : ByteArray := prog_16_method_2_code
def yX16_and : MethodName := ⟨RX16, "and", "(CLSecretBuyers$Exp;)LSecretBuyers$Row;"⟩
def dkwX16_and_0 : List UInt8 := [42, 180, 0, 21, 27, 182, 0, 29, 87, 42, 180, 0, 12, 44, 182, 0, 25, 87, 42, 176]
abbrev dktX16_and_0 : List UInt8 := dkwX16_and_0 ++ []
theorem dksX16_and_0 : cX16_and.data.toList.drop 0 = dktX16_and_0 := by decide +kernel
theorem dX16_and_0 : decode cX16_and 0 = .ok (.aload_n 0, 1) := dk_42 (dk_at dksX16_and_0 0 rfl rfl)
theorem dX16_and_1 : decode cX16_and 1 = .ok (.getfield 21, 3) := dk_180 0 21 (dk_at dksX16_and_0 1 rfl rfl)
theorem dX16_and_4 : decode cX16_and 4 = .ok (.iload_n 1, 1) := dk_27 (dk_at dksX16_and_0 4 rfl rfl)
theorem dX16_and_5 : decode cX16_and 5 = .ok (.invokevirtual 29, 3) := dk_182 0 29 (dk_at dksX16_and_0 5 rfl rfl)
theorem dX16_and_8 : decode cX16_and 8 = .ok (.pop, 1) := dk_87 (dk_at dksX16_and_0 8 rfl rfl)
theorem dX16_and_9 : decode cX16_and 9 = .ok (.aload_n 0, 1) := dk_42 (dk_at dksX16_and_0 9 rfl rfl)
theorem dX16_and_10 : decode cX16_and 10 = .ok (.getfield 12, 3) := dk_180 0 12 (dk_at dksX16_and_0 10 rfl rfl)
theorem dX16_and_13 : decode cX16_and 13 = .ok (.aload_n 2, 1) := dk_44 (dk_at dksX16_and_0 13 rfl rfl)
theorem dX16_and_14 : decode cX16_and 14 = .ok (.invokevirtual 25, 3) := dk_182 0 25 (dk_at dksX16_and_0 14 rfl rfl)
theorem dX16_and_17 : decode cX16_and 17 = .ok (.pop, 1) := dk_87 (dk_at dksX16_and_0 17 rfl rfl)
theorem dX16_and_18 : decode cX16_and 18 = .ok (.aload_n 0, 1) := dk_42 (dk_at dksX16_and_0 18 rfl rfl)
theorem dX16_and_19 : decode cX16_and 19 = .ok (.areturn, 1) := dk_176 (dk_at dksX16_and_0 19 rfl rfl)
abbrev cX16_value : ByteArray := prog_16_method_3_code
def yX16_value : MethodName := ⟨RX16, "value", "(LSecretBuyers$Ask;)I"⟩
def dkwX16_value_2 : List UInt8 := [182, 0, 33, 192, 0, 2, 43, 182, 0, 37, 184, 0, 49, 61, 132, 3, 1, 167, 255, 212, 28, 172]
abbrev dktX16_value_2 : List UInt8 := dkwX16_value_2 ++ []
def dkwX16_value_1 : List UInt8 := [182, 0, 41, 162, 0, 39, 42, 180, 0, 21, 29, 4, 100, 182, 0, 45, 28, 42, 180, 0, 12, 29]
abbrev dktX16_value_1 : List UInt8 := dkwX16_value_1 ++ dktX16_value_2
def dkwX16_value_0 : List UInt8 := [42, 180, 0, 12, 3, 182, 0, 33, 192, 0, 2, 43, 182, 0, 37, 61, 4, 62, 29, 42, 180, 0, 12]
abbrev dktX16_value_0 : List UInt8 := dkwX16_value_0 ++ dktX16_value_1
theorem dksX16_value_0 : cX16_value.data.toList.drop 0 = dktX16_value_0 := by decide +kernel
theorem dksX16_value_1 : cX16_value.data.toList.drop 23 = dktX16_value_1 := dk_seg dksX16_value_0 23 rfl rfl
theorem dksX16_value_2 : cX16_value.data.toList.drop 45 = dktX16_value_2 := dk_seg dksX16_value_1 22 rfl rfl
theorem dX16_value_0 : decode cX16_value 0 = .ok (.aload_n 0, 1) := dk_42 (dk_at dksX16_value_0 0 rfl rfl)
theorem dX16_value_1 : decode cX16_value 1 = .ok (.getfield 12, 3) := dk_180 0 12 (dk_at dksX16_value_0 1 rfl rfl)
theorem dX16_value_4 : decode cX16_value 4 = .ok (.iconst 0, 1) := dk_3 (dk_at dksX16_value_0 4 rfl rfl)
theorem dX16_value_5 : decode cX16_value 5 = .ok (.invokevirtual 33, 3) := dk_182 0 33 (dk_at dksX16_value_0 5 rfl rfl)
theorem dX16_value_8 : decode cX16_value 8 = .ok (.checkcast 2, 3) := dk_192 0 2 (dk_at dksX16_value_0 8 rfl rfl)
theorem dX16_value_11 : decode cX16_value 11 = .ok (.aload_n 1, 1) := dk_43 (dk_at dksX16_value_0 11 rfl rfl)
theorem dX16_value_12 : decode cX16_value 12 = .ok (.invokevirtual 37, 3) := dk_182 0 37 (dk_at dksX16_value_0 12 rfl rfl)
theorem dX16_value_15 : decode cX16_value 15 = .ok (.istore_n 2, 1) := dk_61 (dk_at dksX16_value_0 15 rfl rfl)
theorem dX16_value_16 : decode cX16_value 16 = .ok (.iconst 1, 1) := dk_4 (dk_at dksX16_value_0 16 rfl rfl)
theorem dX16_value_17 : decode cX16_value 17 = .ok (.istore_n 3, 1) := dk_62 (dk_at dksX16_value_0 17 rfl rfl)
theorem dX16_value_18 : decode cX16_value 18 = .ok (.iload_n 3, 1) := dk_29 (dk_at dksX16_value_0 18 rfl rfl)
theorem dX16_value_19 : decode cX16_value 19 = .ok (.aload_n 0, 1) := dk_42 (dk_at dksX16_value_0 19 rfl rfl)
theorem dX16_value_20 : decode cX16_value 20 = .ok (.getfield 12, 3) := dk_180 0 12 (dk_at dksX16_value_0 20 rfl rfl)
theorem dX16_value_23 : decode cX16_value 23 = .ok (.invokevirtual 41, 3) := dk_182 0 41 (dk_at dksX16_value_1 0 rfl rfl)
theorem dX16_value_26 : decode cX16_value 26 = .ok (.if_icmp .ge 39, 3) := dk_162 0 39 (dk_at dksX16_value_1 3 rfl rfl)
theorem dX16_value_29 : decode cX16_value 29 = .ok (.aload_n 0, 1) := dk_42 (dk_at dksX16_value_1 6 rfl rfl)
theorem dX16_value_30 : decode cX16_value 30 = .ok (.getfield 21, 3) := dk_180 0 21 (dk_at dksX16_value_1 7 rfl rfl)
theorem dX16_value_33 : decode cX16_value 33 = .ok (.iload_n 3, 1) := dk_29 (dk_at dksX16_value_1 10 rfl rfl)
theorem dX16_value_34 : decode cX16_value 34 = .ok (.iconst 1, 1) := dk_4 (dk_at dksX16_value_1 11 rfl rfl)
theorem dX16_value_35 : decode cX16_value 35 = .ok (.isub, 1) := dk_100 (dk_at dksX16_value_1 12 rfl rfl)
theorem dX16_value_36 : decode cX16_value 36 = .ok (.invokevirtual 45, 3) := dk_182 0 45 (dk_at dksX16_value_1 13 rfl rfl)
theorem dX16_value_39 : decode cX16_value 39 = .ok (.iload_n 2, 1) := dk_28 (dk_at dksX16_value_1 16 rfl rfl)
theorem dX16_value_40 : decode cX16_value 40 = .ok (.aload_n 0, 1) := dk_42 (dk_at dksX16_value_1 17 rfl rfl)
theorem dX16_value_41 : decode cX16_value 41 = .ok (.getfield 12, 3) := dk_180 0 12 (dk_at dksX16_value_1 18 rfl rfl)
theorem dX16_value_44 : decode cX16_value 44 = .ok (.iload_n 3, 1) := dk_29 (dk_at dksX16_value_1 21 rfl rfl)
theorem dX16_value_45 : decode cX16_value 45 = .ok (.invokevirtual 33, 3) := dk_182 0 33 (dk_at dksX16_value_2 0 rfl rfl)
theorem dX16_value_48 : decode cX16_value 48 = .ok (.checkcast 2, 3) := dk_192 0 2 (dk_at dksX16_value_2 3 rfl rfl)
theorem dX16_value_51 : decode cX16_value 51 = .ok (.aload_n 1, 1) := dk_43 (dk_at dksX16_value_2 6 rfl rfl)
theorem dX16_value_52 : decode cX16_value 52 = .ok (.invokevirtual 37, 3) := dk_182 0 37 (dk_at dksX16_value_2 7 rfl rfl)
theorem dX16_value_55 : decode cX16_value 55 = .ok (.invokestatic 49, 3) := dk_184 0 49 (dk_at dksX16_value_2 10 rfl rfl)
theorem dX16_value_58 : decode cX16_value 58 = .ok (.istore_n 2, 1) := dk_61 (dk_at dksX16_value_2 13 rfl rfl)
theorem dX16_value_59 : decode cX16_value 59 = .ok (.iinc 3 1, 3) := dk_132 3 1 (dk_at dksX16_value_2 14 rfl rfl)
theorem dX16_value_62 : decode cX16_value 62 = .ok (.goto (-44), 3) := dk_167 255 212 (dk_at dksX16_value_2 17 rfl rfl)
theorem dX16_value_65 : decode cX16_value 65 = .ok (.iload_n 2, 1) := dk_28 (dk_at dksX16_value_2 20 rfl rfl)
theorem dX16_value_66 : decode cX16_value 66 = .ok (.ireturn, 1) := dk_172 (dk_at dksX16_value_2 21 rfl rfl)
abbrev cX16_worked : ByteArray := prog_16_method_4_code
def yX16_worked : MethodName := ⟨RX16, "worked", "(CII)I"⟩
def dkwX16_worked_4 : List UInt8 := [27, 154, 0, 7, 28, 153, 0, 7, 4, 167, 0, 4, 3, 172]
abbrev dktX16_worked_4 : List UInt8 := dkwX16_worked_4 ++ []
def dkwX16_worked_3 : List UInt8 := [28, 160, 0, 7, 4, 167, 0, 4, 3, 172, 27, 153, 0, 11, 28, 153, 0, 7, 4, 167, 0, 4, 3, 172]
abbrev dktX16_worked_3 : List UInt8 := dkwX16_worked_3 ++ dktX16_worked_4
def dkwX16_worked_2 : List UInt8 := [27, 28, 96, 172, 27, 28, 100, 172, 27, 28, 104, 172, 27, 28, 162, 0, 7, 4, 167, 0, 4, 3, 172, 27]
abbrev dktX16_worked_2 : List UInt8 := dkwX16_worked_2 ++ dktX16_worked_3
def dkwX16_worked_1 : List UInt8 := [171, 0, 0, 0, 0, 0, 107, 0, 0, 0, 6, 0, 0, 0, 42, 0, 0, 0, 67, 0, 0, 0, 43, 0, 0, 0, 59, 0, 0, 0, 45, 0, 0, 0, 63, 0, 0, 0, 60, 0, 0, 0, 71, 0, 0, 0, 61, 0, 0, 0, 82, 0, 0, 0, 97, 0, 0, 0, 93]
abbrev dktX16_worked_1 : List UInt8 := dkwX16_worked_1 ++ dktX16_worked_2
def dkwX16_worked_0 : List UInt8 := [26]
abbrev dktX16_worked_0 : List UInt8 := dkwX16_worked_0 ++ dktX16_worked_1
theorem dksX16_worked_0 : cX16_worked.data.toList.drop 0 = dktX16_worked_0 := by decide +kernel
theorem dksX16_worked_1 : cX16_worked.data.toList.drop 1 = dktX16_worked_1 := dk_seg dksX16_worked_0 1 rfl rfl
theorem dksX16_worked_2 : cX16_worked.data.toList.drop 60 = dktX16_worked_2 := dk_seg dksX16_worked_1 59 rfl rfl
theorem dksX16_worked_3 : cX16_worked.data.toList.drop 84 = dktX16_worked_3 := dk_seg dksX16_worked_2 24 rfl rfl
theorem dksX16_worked_4 : cX16_worked.data.toList.drop 108 = dktX16_worked_4 := dk_seg dksX16_worked_3 24 rfl rfl
theorem dX16_worked_0 : decode cX16_worked 0 = .ok (.iload_n 0, 1) := dk_26 (dk_at dksX16_worked_0 0 rfl rfl)
theorem dX16_worked_1 : decode cX16_worked 1 = .ok (.lookupswitch 107 #[(42, 67), (43, 59), (45, 63), (60, 71), (61, 82), (97, 93)], 59) := by decide +kernel
theorem dX16_worked_60 : decode cX16_worked 60 = .ok (.iload_n 1, 1) := dk_27 (dk_at dksX16_worked_2 0 rfl rfl)
theorem dX16_worked_61 : decode cX16_worked 61 = .ok (.iload_n 2, 1) := dk_28 (dk_at dksX16_worked_2 1 rfl rfl)
theorem dX16_worked_62 : decode cX16_worked 62 = .ok (.iadd, 1) := dk_96 (dk_at dksX16_worked_2 2 rfl rfl)
theorem dX16_worked_63 : decode cX16_worked 63 = .ok (.ireturn, 1) := dk_172 (dk_at dksX16_worked_2 3 rfl rfl)
theorem dX16_worked_64 : decode cX16_worked 64 = .ok (.iload_n 1, 1) := dk_27 (dk_at dksX16_worked_2 4 rfl rfl)
theorem dX16_worked_65 : decode cX16_worked 65 = .ok (.iload_n 2, 1) := dk_28 (dk_at dksX16_worked_2 5 rfl rfl)
theorem dX16_worked_66 : decode cX16_worked 66 = .ok (.isub, 1) := dk_100 (dk_at dksX16_worked_2 6 rfl rfl)
theorem dX16_worked_67 : decode cX16_worked 67 = .ok (.ireturn, 1) := dk_172 (dk_at dksX16_worked_2 7 rfl rfl)
theorem dX16_worked_68 : decode cX16_worked 68 = .ok (.iload_n 1, 1) := dk_27 (dk_at dksX16_worked_2 8 rfl rfl)
theorem dX16_worked_69 : decode cX16_worked 69 = .ok (.iload_n 2, 1) := dk_28 (dk_at dksX16_worked_2 9 rfl rfl)
theorem dX16_worked_70 : decode cX16_worked 70 = .ok (.imul, 1) := dk_104 (dk_at dksX16_worked_2 10 rfl rfl)
theorem dX16_worked_71 : decode cX16_worked 71 = .ok (.ireturn, 1) := dk_172 (dk_at dksX16_worked_2 11 rfl rfl)
theorem dX16_worked_72 : decode cX16_worked 72 = .ok (.iload_n 1, 1) := dk_27 (dk_at dksX16_worked_2 12 rfl rfl)
theorem dX16_worked_73 : decode cX16_worked 73 = .ok (.iload_n 2, 1) := dk_28 (dk_at dksX16_worked_2 13 rfl rfl)
theorem dX16_worked_74 : decode cX16_worked 74 = .ok (.if_icmp .ge 7, 3) := dk_162 0 7 (dk_at dksX16_worked_2 14 rfl rfl)
theorem dX16_worked_77 : decode cX16_worked 77 = .ok (.iconst 1, 1) := dk_4 (dk_at dksX16_worked_2 17 rfl rfl)
theorem dX16_worked_78 : decode cX16_worked 78 = .ok (.goto 4, 3) := dk_167 0 4 (dk_at dksX16_worked_2 18 rfl rfl)
theorem dX16_worked_81 : decode cX16_worked 81 = .ok (.iconst 0, 1) := dk_3 (dk_at dksX16_worked_2 21 rfl rfl)
theorem dX16_worked_82 : decode cX16_worked 82 = .ok (.ireturn, 1) := dk_172 (dk_at dksX16_worked_2 22 rfl rfl)
theorem dX16_worked_83 : decode cX16_worked 83 = .ok (.iload_n 1, 1) := dk_27 (dk_at dksX16_worked_2 23 rfl rfl)
theorem dX16_worked_84 : decode cX16_worked 84 = .ok (.iload_n 2, 1) := dk_28 (dk_at dksX16_worked_3 0 rfl rfl)
theorem dX16_worked_85 : decode cX16_worked 85 = .ok (.if_icmp .ne 7, 3) := dk_160 0 7 (dk_at dksX16_worked_3 1 rfl rfl)
theorem dX16_worked_88 : decode cX16_worked 88 = .ok (.iconst 1, 1) := dk_4 (dk_at dksX16_worked_3 4 rfl rfl)
theorem dX16_worked_89 : decode cX16_worked 89 = .ok (.goto 4, 3) := dk_167 0 4 (dk_at dksX16_worked_3 5 rfl rfl)
theorem dX16_worked_92 : decode cX16_worked 92 = .ok (.iconst 0, 1) := dk_3 (dk_at dksX16_worked_3 8 rfl rfl)
theorem dX16_worked_93 : decode cX16_worked 93 = .ok (.ireturn, 1) := dk_172 (dk_at dksX16_worked_3 9 rfl rfl)
theorem dX16_worked_94 : decode cX16_worked 94 = .ok (.iload_n 1, 1) := dk_27 (dk_at dksX16_worked_3 10 rfl rfl)
theorem dX16_worked_95 : decode cX16_worked 95 = .ok (.ifCond .eq 11, 3) := dk_153 0 11 (dk_at dksX16_worked_3 11 rfl rfl)
theorem dX16_worked_98 : decode cX16_worked 98 = .ok (.iload_n 2, 1) := dk_28 (dk_at dksX16_worked_3 14 rfl rfl)
theorem dX16_worked_99 : decode cX16_worked 99 = .ok (.ifCond .eq 7, 3) := dk_153 0 7 (dk_at dksX16_worked_3 15 rfl rfl)
theorem dX16_worked_102 : decode cX16_worked 102 = .ok (.iconst 1, 1) := dk_4 (dk_at dksX16_worked_3 18 rfl rfl)
theorem dX16_worked_103 : decode cX16_worked 103 = .ok (.goto 4, 3) := dk_167 0 4 (dk_at dksX16_worked_3 19 rfl rfl)
theorem dX16_worked_106 : decode cX16_worked 106 = .ok (.iconst 0, 1) := dk_3 (dk_at dksX16_worked_3 22 rfl rfl)
theorem dX16_worked_107 : decode cX16_worked 107 = .ok (.ireturn, 1) := dk_172 (dk_at dksX16_worked_3 23 rfl rfl)
theorem dX16_worked_108 : decode cX16_worked 108 = .ok (.iload_n 1, 1) := dk_27 (dk_at dksX16_worked_4 0 rfl rfl)
theorem dX16_worked_109 : decode cX16_worked 109 = .ok (.ifCond .ne 7, 3) := dk_154 0 7 (dk_at dksX16_worked_4 1 rfl rfl)
theorem dX16_worked_112 : decode cX16_worked 112 = .ok (.iload_n 2, 1) := dk_28 (dk_at dksX16_worked_4 4 rfl rfl)
theorem dX16_worked_113 : decode cX16_worked 113 = .ok (.ifCond .eq 7, 3) := dk_153 0 7 (dk_at dksX16_worked_4 5 rfl rfl)
theorem dX16_worked_116 : decode cX16_worked 116 = .ok (.iconst 1, 1) := dk_4 (dk_at dksX16_worked_4 8 rfl rfl)
theorem dX16_worked_117 : decode cX16_worked 117 = .ok (.goto 4, 3) := dk_167 0 4 (dk_at dksX16_worked_4 9 rfl rfl)
theorem dX16_worked_120 : decode cX16_worked 120 = .ok (.iconst 0, 1) := dk_3 (dk_at dksX16_worked_4 12 rfl rfl)
theorem dX16_worked_121 : decode cX16_worked 121 = .ok (.ireturn, 1) := dk_172 (dk_at dksX16_worked_4 13 rfl rfl)
theorem q127 : (Jvm.Cond.initialized "SecretBuyers$Row") ∈ lw_all := lw_g (lw_at lw_m1 34 rfl) rfl
theorem q436 : (Jvm.Cond.selects "SecretBuyers$Row" ({ cls := "java/lang/Object", name := "getClass", desc := "()Ljava/lang/Class;" } : Jvm.MethodName) ({ cls := "java/lang/Object", name := "getClass", desc := "()Ljava/lang/Class;" } : Jvm.MethodName)) ∈ lw_all := lw_g (lw_at lw_m2 103 rfl) rfl
theorem q1025 : (Jvm.Cond.selects "SecretBuyers$Row" ({ cls := "java/lang/Object", name := "equals", desc := "(Ljava/lang/Object;)Z" } : Jvm.MethodName) ({ cls := "java/lang/Object", name := "equals", desc := "(Ljava/lang/Object;)Z" } : Jvm.MethodName)) ∈ lw_all := lw_g (lw_at lw_m4 212 rfl) rfl
theorem q1119 : (Jvm.Cond.instantiable "SecretBuyers$Row" (2 : Nat)) ∈ lw_all := lw_g (lw_at lw_m5 66 rfl) rfl
theorem q1121 : (Jvm.Cond.instanceMethod ({ cls := "SecretBuyers$Row", name := "<init>", desc := "(LSecretBuyers$Exp;)V" } : Jvm.MethodName)) ∈ lw_all := lw_g (lw_at lw_m5 68 rfl) rfl
theorem q1122 : (Jvm.Cond.code ({ cls := "SecretBuyers$Row", name := "<init>", desc := "(LSecretBuyers$Exp;)V" } : Jvm.MethodName) prog_16_method_1_code (2 : Nat) (Option.none : Option Jvm.ClassFile.FieldType)) ∈ lw_all := lw_g (lw_at lw_m5 69 rfl) rfl
theorem q1123 : (Jvm.Cond.methodLinkNest "SecretBuyers$Row" (1 : Nat) ({ cls := "SecretBuyers$Exp", name := "<init>", desc := "()V" } : Jvm.MethodName) "SecretBuyers") ∈ lw_tbl := lw_at lw_m5 70 rfl
theorem q1124 : (Jvm.Cond.classLink "SecretBuyers$Row" (7 : Nat) "java/util/ArrayList") ∈ lw_all := lw_g (lw_at lw_m5 71 rfl) rfl
theorem q1125 : (Jvm.Cond.methodLink "SecretBuyers$Row" (9 : Nat) ({ cls := "java/util/ArrayList", name := "<init>", desc := "(I)V" } : Jvm.MethodName)) ∈ lw_all := lw_g (lw_at lw_m5 72 rfl) rfl
theorem q1126 : (Jvm.Cond.classLink "SecretBuyers$Row" (18 : Nat) "java/lang/StringBuilder") ∈ lw_all := lw_g (lw_at lw_m5 73 rfl) rfl
theorem q1127 : (Jvm.Cond.methodLink "SecretBuyers$Row" (20 : Nat) ({ cls := "java/lang/StringBuilder", name := "<init>", desc := "(I)V" } : Jvm.MethodName)) ∈ lw_all := lw_g (lw_at lw_m5 74 rfl) rfl
theorem q1128 : (Jvm.Cond.methodLink "SecretBuyers$Row" (25 : Nat) ({ cls := "java/util/ArrayList", name := "add", desc := "(Ljava/lang/Object;)Z" } : Jvm.MethodName)) ∈ lw_all := lw_g (lw_at lw_m5 75 rfl) rfl
theorem q1129 : (Jvm.Cond.fieldLink "SecretBuyers$Row" (12 : Nat) "SecretBuyers$Row" "operands" "Ljava/util/ArrayList;") ∈ lw_all := lw_g (lw_at lw_m5 76 rfl) rfl
theorem q1130 : (Jvm.Cond.fieldLink "SecretBuyers$Row" (21 : Nat) "SecretBuyers$Row" "signs" "Ljava/lang/StringBuilder;") ∈ lw_all := lw_g (lw_at lw_m5 77 rfl) rfl
theorem q1131 : (Jvm.Cond.laysFinal "SecretBuyers$Row" "SecretBuyers$Row" "operands" "Ljava/util/ArrayList;") ∈ lw_all := lw_g (lw_at lw_m5 78 rfl) rfl
theorem q1132 : (Jvm.Cond.soleField "SecretBuyers$Row" "operands") ∈ lw_all := lw_g (lw_at lw_m5 79 rfl) rfl
theorem q1133 : (Jvm.Cond.laysFinal "SecretBuyers$Row" "SecretBuyers$Row" "signs" "Ljava/lang/StringBuilder;") ∈ lw_all := lw_g (lw_at lw_m5 80 rfl) rfl
theorem q1134 : (Jvm.Cond.soleField "SecretBuyers$Row" "signs") ∈ lw_all := lw_g (lw_at lw_m5 81 rfl) rfl
theorem q1135 : (Jvm.Cond.superclass "SecretBuyers$Row" "SecretBuyers$Exp") ∈ lw_all := lw_g (lw_at lw_m5 82 rfl) rfl
theorem q1137 : (Jvm.Cond.instanceMethod ({ cls := "SecretBuyers$Row", name := "and", desc := "(CLSecretBuyers$Exp;)LSecretBuyers$Row;" } : Jvm.MethodName)) ∈ lw_all := lw_g (lw_at lw_m5 84 rfl) rfl
theorem q1138 : (Jvm.Cond.selects "SecretBuyers$Row" ({ cls := "SecretBuyers$Row", name := "and", desc := "(CLSecretBuyers$Exp;)LSecretBuyers$Row;" } : Jvm.MethodName) ({ cls := "SecretBuyers$Row", name := "and", desc := "(CLSecretBuyers$Exp;)LSecretBuyers$Row;" } : Jvm.MethodName)) ∈ lw_all := lw_g (lw_at lw_m5 85 rfl) rfl
theorem q1139 : (Jvm.Cond.code ({ cls := "SecretBuyers$Row", name := "and", desc := "(CLSecretBuyers$Exp;)LSecretBuyers$Row;" } : Jvm.MethodName) prog_16_method_2_code (3 : Nat) (Option.some (Jvm.ClassFile.FieldType.object "SecretBuyers$Row"))) ∈ lw_all := lw_g (lw_at lw_m5 86 rfl) rfl
theorem q1140 : (Jvm.Cond.methodLink "SecretBuyers$Row" (29 : Nat) ({ cls := "java/lang/StringBuilder", name := "append", desc := "(C)Ljava/lang/StringBuilder;" } : Jvm.MethodName)) ∈ lw_all := lw_g (lw_at lw_m5 87 rfl) rfl
theorem q1270 : (Jvm.Cond.instanceMethod ({ cls := "SecretBuyers$Row", name := "value", desc := "(LSecretBuyers$Ask;)I" } : Jvm.MethodName)) ∈ lw_all := lw_g (lw_at lw_m5 217 rfl) rfl
theorem q1271 : (Jvm.Cond.code ({ cls := "SecretBuyers$Row", name := "value", desc := "(LSecretBuyers$Ask;)I" } : Jvm.MethodName) prog_16_method_3_code (4 : Nat) (Option.some Jvm.ClassFile.FieldType.int)) ∈ lw_all := lw_g (lw_at lw_m5 218 rfl) rfl
theorem q1272 : (Jvm.Cond.methodLink "SecretBuyers$Row" (33 : Nat) ({ cls := "java/util/ArrayList", name := "get", desc := "(I)Ljava/lang/Object;" } : Jvm.MethodName)) ∈ lw_all := lw_g (lw_at lw_m5 219 rfl) rfl
theorem q1273 : (Jvm.Cond.classLink "SecretBuyers$Row" (2 : Nat) "SecretBuyers$Exp") ∈ lw_all := lw_g (lw_at lw_m5 220 rfl) rfl
theorem q1274 : (Jvm.Cond.methodLink "SecretBuyers$Row" (37 : Nat) ({ cls := "SecretBuyers$Exp", name := "value", desc := "(LSecretBuyers$Ask;)I" } : Jvm.MethodName)) ∈ lw_all := lw_g (lw_at lw_m5 221 rfl) rfl
theorem q1275 : (Jvm.Cond.methodLink "SecretBuyers$Row" (41 : Nat) ({ cls := "java/util/ArrayList", name := "size", desc := "()I" } : Jvm.MethodName)) ∈ lw_all := lw_g (lw_at lw_m5 222 rfl) rfl
theorem q1276 : (Jvm.Cond.methodLink "SecretBuyers$Row" (45 : Nat) ({ cls := "java/lang/StringBuilder", name := "charAt", desc := "(I)C" } : Jvm.MethodName)) ∈ lw_all := lw_g (lw_at lw_m5 223 rfl) rfl
theorem q1286 : (Jvm.Cond.methodLink "SecretBuyers$Row" (49 : Nat) ({ cls := "SecretBuyers$Row", name := "worked", desc := "(CII)I" } : Jvm.MethodName)) ∈ lw_all := lw_g (lw_at lw_m5 233 rfl) rfl
theorem q1287 : (Jvm.Cond.static ({ cls := "SecretBuyers$Row", name := "worked", desc := "(CII)I" } : Jvm.MethodName)) ∈ lw_all := lw_g (lw_at lw_m5 234 rfl) rfl
theorem q1288 : (Jvm.Cond.code ({ cls := "SecretBuyers$Row", name := "worked", desc := "(CII)I" } : Jvm.MethodName) prog_16_method_4_code (3 : Nat) (Option.some Jvm.ClassFile.FieldType.int)) ∈ lw_all := lw_g (lw_at lw_m5 235 rfl) rfl
theorem q1289 : (Jvm.Cond.selects "SecretBuyers$Row" ({ cls := "SecretBuyers$Exp", name := "value", desc := "(LSecretBuyers$Ask;)I" } : Jvm.MethodName) ({ cls := "SecretBuyers$Row", name := "value", desc := "(LSecretBuyers$Ask;)I" } : Jvm.MethodName)) ∈ lw_all := lw_g (lw_at lw_m5 236 rfl) rfl
theorem q2162 : (Jvm.Cond.castable "SecretBuyers$Row" "SecretBuyers$Exp") ∈ lw_tbl := lw_at lw_m9 149 rfl
theorem q2183 : (Jvm.Cond.castable "SecretBuyers$Row" "java/lang/Object") ∈ lw_tbl := lw_at lw_m9 170 rfl
theorem in_X16 : ∀ w ∈ wsX160, w ∈ lw_all := lw_in wsX160 [1131, 1133] (by decide +kernel) (by decide +kernel)
/-! SecretBuyers$Line -/
set_option maxRecDepth 100000
def RX17 : String := "SecretBuyers$Line"
abbrev cX17_init : ByteArray := prog_10_method_1_code
def yX17_init : MethodName := ⟨RX17, "<init>", "(LSecretBuyers$Exp;)V"⟩
def dkwX17_init_0 : List UInt8 := [42, 183, 0, 3, 42, 43, 181, 0, 9, 177]
abbrev dktX17_init_0 : List UInt8 := dkwX17_init_0 ++ []
theorem dksX17_init_0 : cX17_init.data.toList.drop 0 = dktX17_init_0 := by decide +kernel
theorem dX17_init_0 : decode cX17_init 0 = .ok (.aload_n 0, 1) := dk_42 (dk_at dksX17_init_0 0 rfl rfl)
theorem dX17_init_1 : decode cX17_init 1 = .ok (.invokespecial 3, 3) := dk_183 0 3 (dk_at dksX17_init_0 1 rfl rfl)
theorem dX17_init_4 : decode cX17_init 4 = .ok (.aload_n 0, 1) := dk_42 (dk_at dksX17_init_0 4 rfl rfl)
theorem dX17_init_5 : decode cX17_init 5 = .ok (.aload_n 1, 1) := dk_43 (dk_at dksX17_init_0 5 rfl rfl)
theorem dX17_init_6 : decode cX17_init 6 = .ok (.putfield 9, 3) := dk_181 0 9 (dk_at dksX17_init_0 6 rfl rfl)
theorem dX17_init_9 : decode cX17_init 9 = .ok (.return_, 1) := dk_177 (dk_at dksX17_init_0 9 rfl rfl)
abbrev cX17_holds : ByteArray := prog_10_method_2_code
def yX17_holds : MethodName := ⟨RX17, "holds", "(LSecretBuyers$Ask;)Z"⟩
def dkwX17_holds_0 : List UInt8 := [42, 180, 0, 9, 43, 182, 0, 15, 153, 0, 7, 4, 167, 0, 4, 3, 172]
abbrev dktX17_holds_0 : List UInt8 := dkwX17_holds_0 ++ []
theorem dksX17_holds_0 : cX17_holds.data.toList.drop 0 = dktX17_holds_0 := by decide +kernel
theorem dX17_holds_0 : decode cX17_holds 0 = .ok (.aload_n 0, 1) := dk_42 (dk_at dksX17_holds_0 0 rfl rfl)
theorem dX17_holds_1 : decode cX17_holds 1 = .ok (.getfield 9, 3) := dk_180 0 9 (dk_at dksX17_holds_0 1 rfl rfl)
theorem dX17_holds_4 : decode cX17_holds 4 = .ok (.aload_n 1, 1) := dk_43 (dk_at dksX17_holds_0 4 rfl rfl)
theorem dX17_holds_5 : decode cX17_holds 5 = .ok (.invokevirtual 15, 3) := dk_182 0 15 (dk_at dksX17_holds_0 5 rfl rfl)
theorem dX17_holds_8 : decode cX17_holds 8 = .ok (.ifCond .eq 7, 3) := dk_153 0 7 (dk_at dksX17_holds_0 8 rfl rfl)
theorem dX17_holds_11 : decode cX17_holds 11 = .ok (.iconst 1, 1) := dk_4 (dk_at dksX17_holds_0 11 rfl rfl)
theorem dX17_holds_12 : decode cX17_holds 12 = .ok (.goto 4, 3) := dk_167 0 4 (dk_at dksX17_holds_0 12 rfl rfl)
theorem dX17_holds_15 : decode cX17_holds 15 = .ok (.iconst 0, 1) := dk_3 (dk_at dksX17_holds_0 15 rfl rfl)
theorem dX17_holds_16 : decode cX17_holds 16 = .ok (.ireturn, 1) := dk_172 (dk_at dksX17_holds_0 16 rfl rfl)
abbrev cX17_fails : ByteArray := prog_10_method_4_code
def yX17_fails : MethodName := ⟨RX17, "fails", "(LSecretBuyers$Ask;)Z"⟩
theorem dX17_fails_0 : decode cX17_fails 0 = .ok (.iconst 0, 1) := by decide +kernel
theorem dX17_fails_1 : decode cX17_fails 1 = .ok (.ireturn, 1) := by decide +kernel
abbrev cX17_adds : ByteArray := prog_10_method_3_code
def yX17_adds : MethodName := ⟨RX17, "adds", "(LSecretBuyers$Ask;)I"⟩
theorem dX17_adds_0 : decode cX17_adds 0 = .ok (.iconst 0, 1) := by decide +kernel
theorem dX17_adds_1 : decode cX17_adds 1 = .ok (.ireturn, 1) := by decide +kernel
abbrev cX17_bonus : ByteArray := prog_10_method_5_code
def yX17_bonus : MethodName := ⟨RX17, "bonus", "()I"⟩
theorem dX17_bonus_0 : decode cX17_bonus 0 = .ok (.iconst (-1), 1) := by decide +kernel
theorem dX17_bonus_1 : decode cX17_bonus 1 = .ok (.ireturn, 1) := by decide +kernel
theorem q128 : (Jvm.Cond.initialized "SecretBuyers$Line") ∈ lw_all := lw_g (lw_at lw_m1 35 rfl) rfl
theorem q1149 : (Jvm.Cond.instanceMethod ({ cls := "SecretBuyers$Line", name := "<init>", desc := "(LSecretBuyers$Exp;)V" } : Jvm.MethodName)) ∈ lw_all := lw_g (lw_at lw_m5 96 rfl) rfl
theorem q1150 : (Jvm.Cond.code ({ cls := "SecretBuyers$Line", name := "<init>", desc := "(LSecretBuyers$Exp;)V" } : Jvm.MethodName) prog_10_method_1_code (2 : Nat) (Option.none : Option Jvm.ClassFile.FieldType)) ∈ lw_all := lw_g (lw_at lw_m5 97 rfl) rfl
theorem q1151 : (Jvm.Cond.methodLink "SecretBuyers$Line" (3 : Nat) ({ cls := "java/lang/Object", name := "<init>", desc := "()V" } : Jvm.MethodName)) ∈ lw_all := lw_g (lw_at lw_m5 98 rfl) rfl
theorem q1152 : (Jvm.Cond.fieldLink "SecretBuyers$Line" (9 : Nat) "SecretBuyers$Line" "when" "LSecretBuyers$Exp;") ∈ lw_all := lw_g (lw_at lw_m5 99 rfl) rfl
theorem q1154 : (Jvm.Cond.soleField "SecretBuyers$Line" "when") ∈ lw_all := lw_g (lw_at lw_m5 101 rfl) rfl
theorem q1292 : (Jvm.Cond.instanceMethod ({ cls := "SecretBuyers$Line", name := "fails", desc := "(LSecretBuyers$Ask;)Z" } : Jvm.MethodName)) ∈ lw_all := lw_g (lw_at lw_m5 239 rfl) rfl
theorem q1293 : (Jvm.Cond.sameMethod "SecretBuyers$Line" "SecretBuyers$Line" "fails" "(LSecretBuyers$Ask;)Z") ∈ lw_all := lw_g (lw_at lw_m6 0 rfl) rfl
theorem q1301 : (Jvm.Cond.declares ({ cls := "SecretBuyers$Line", name := "holds", desc := "(LSecretBuyers$Ask;)Z" } : Jvm.MethodName)) ∈ lw_tbl := lw_at lw_m6 8 rfl
theorem q1303 : (Jvm.Cond.instanceMethod ({ cls := "SecretBuyers$Line", name := "holds", desc := "(LSecretBuyers$Ask;)Z" } : Jvm.MethodName)) ∈ lw_all := lw_g (lw_at lw_m6 10 rfl) rfl
theorem q1304 : (Jvm.Cond.code ({ cls := "SecretBuyers$Line", name := "holds", desc := "(LSecretBuyers$Ask;)Z" } : Jvm.MethodName) prog_10_method_2_code (2 : Nat) (Option.some Jvm.ClassFile.FieldType.boolean)) ∈ lw_all := lw_g (lw_at lw_m6 11 rfl) rfl
theorem q1305 : (Jvm.Cond.methodLink "SecretBuyers$Line" (15 : Nat) ({ cls := "SecretBuyers$Exp", name := "value", desc := "(LSecretBuyers$Ask;)I" } : Jvm.MethodName)) ∈ lw_all := lw_g (lw_at lw_m6 12 rfl) rfl
theorem q1306 : (Jvm.Cond.code ({ cls := "SecretBuyers$Line", name := "fails", desc := "(LSecretBuyers$Ask;)Z" } : Jvm.MethodName) prog_10_method_4_code (2 : Nat) (Option.some Jvm.ClassFile.FieldType.boolean)) ∈ lw_all := lw_g (lw_at lw_m6 13 rfl) rfl
theorem q1309 : (Jvm.Cond.instanceMethod ({ cls := "SecretBuyers$Line", name := "adds", desc := "(LSecretBuyers$Ask;)I" } : Jvm.MethodName)) ∈ lw_all := lw_g (lw_at lw_m6 16 rfl) rfl
theorem q1310 : (Jvm.Cond.sameMethod "SecretBuyers$Line" "SecretBuyers$Line" "adds" "(LSecretBuyers$Ask;)I") ∈ lw_all := lw_g (lw_at lw_m6 17 rfl) rfl
theorem q1317 : (Jvm.Cond.code ({ cls := "SecretBuyers$Line", name := "adds", desc := "(LSecretBuyers$Ask;)I" } : Jvm.MethodName) prog_10_method_3_code (2 : Nat) (Option.some Jvm.ClassFile.FieldType.int)) ∈ lw_all := lw_g (lw_at lw_m6 24 rfl) rfl
theorem q1325 : (Jvm.Cond.instanceMethod ({ cls := "SecretBuyers$Line", name := "bonus", desc := "()I" } : Jvm.MethodName)) ∈ lw_all := lw_g (lw_at lw_m6 32 rfl) rfl
theorem q1326 : (Jvm.Cond.sameMethod "SecretBuyers$Line" "SecretBuyers$Line" "bonus" "()I") ∈ lw_all := lw_g (lw_at lw_m6 33 rfl) rfl
theorem q1332 : (Jvm.Cond.code ({ cls := "SecretBuyers$Line", name := "bonus", desc := "()I" } : Jvm.MethodName) prog_10_method_5_code (1 : Nat) (Option.some Jvm.ClassFile.FieldType.int)) ∈ lw_all := lw_g (lw_at lw_m6 39 rfl) rfl
theorem q2153 : (Jvm.Cond.sameMethod "SecretBuyers$Line" "SecretBuyers$Line" "holds" "(LSecretBuyers$Ask;)Z") ∈ lw_all := lw_g (lw_at lw_m9 140 rfl) rfl
/-! SecretBuyers$Must -/
set_option maxRecDepth 100000
def RX18 : String := "SecretBuyers$Must"
def TX18 : u_T := fun k => match k with
  | _ => ("SecretBuyers$Line", "when", "LSecretBuyers$Exp;", true)
def tyX18 : Nat → FieldType := fun k => match k with
  | _ => .object "SecretBuyers$Exp"
abbrev wsX180 : List Cond := u_ws RX18 TX18 1
theorem nmX18 : ∀ a, a < 1 → ∀ b, b < 1 → a ≠ b → (TX18 a).2.1 ≠ (TX18 b).2.1 := by decide +kernel
theorem tyX18_ok : ∀ k, k < 1 → parseFieldDescriptor (TX18 k).2.2.1 = some (tyX18 k) := by decide +kernel
abbrev cX18_init : ByteArray := prog_11_method_1_code
def yX18_init : MethodName := ⟨RX18, "<init>", "(LSecretBuyers$Exp;)V"⟩
def dkwX18_init_0 : List UInt8 := [42, 43, 183, 0, 1, 177]
abbrev dktX18_init_0 : List UInt8 := dkwX18_init_0 ++ []
theorem dksX18_init_0 : cX18_init.data.toList.drop 0 = dktX18_init_0 := by decide +kernel
theorem dX18_init_0 : decode cX18_init 0 = .ok (.aload_n 0, 1) := dk_42 (dk_at dksX18_init_0 0 rfl rfl)
theorem dX18_init_1 : decode cX18_init 1 = .ok (.aload_n 1, 1) := dk_43 (dk_at dksX18_init_0 1 rfl rfl)
theorem dX18_init_2 : decode cX18_init 2 = .ok (.invokespecial 1, 3) := dk_183 0 1 (dk_at dksX18_init_0 2 rfl rfl)
theorem dX18_init_5 : decode cX18_init 5 = .ok (.return_, 1) := dk_177 (dk_at dksX18_init_0 5 rfl rfl)
abbrev cX18_fails : ByteArray := prog_11_method_2_code
def yX18_fails : MethodName := ⟨RX18, "fails", "(LSecretBuyers$Ask;)Z"⟩
def dkwX18_fails_0 : List UInt8 := [42, 43, 182, 0, 7, 154, 0, 7, 4, 167, 0, 4, 3, 172]
abbrev dktX18_fails_0 : List UInt8 := dkwX18_fails_0 ++ []
theorem dksX18_fails_0 : cX18_fails.data.toList.drop 0 = dktX18_fails_0 := by decide +kernel
theorem dX18_fails_0 : decode cX18_fails 0 = .ok (.aload_n 0, 1) := dk_42 (dk_at dksX18_fails_0 0 rfl rfl)
theorem dX18_fails_1 : decode cX18_fails 1 = .ok (.aload_n 1, 1) := dk_43 (dk_at dksX18_fails_0 1 rfl rfl)
theorem dX18_fails_2 : decode cX18_fails 2 = .ok (.invokevirtual 7, 3) := dk_182 0 7 (dk_at dksX18_fails_0 2 rfl rfl)
theorem dX18_fails_5 : decode cX18_fails 5 = .ok (.ifCond .ne 7, 3) := dk_154 0 7 (dk_at dksX18_fails_0 5 rfl rfl)
theorem dX18_fails_8 : decode cX18_fails 8 = .ok (.iconst 1, 1) := dk_4 (dk_at dksX18_fails_0 8 rfl rfl)
theorem dX18_fails_9 : decode cX18_fails 9 = .ok (.goto 4, 3) := dk_167 0 4 (dk_at dksX18_fails_0 9 rfl rfl)
theorem dX18_fails_12 : decode cX18_fails 12 = .ok (.iconst 0, 1) := dk_3 (dk_at dksX18_fails_0 12 rfl rfl)
theorem dX18_fails_13 : decode cX18_fails 13 = .ok (.ireturn, 1) := dk_172 (dk_at dksX18_fails_0 13 rfl rfl)
theorem q129 : (Jvm.Cond.initialized "SecretBuyers$Must") ∈ lw_all := lw_g (lw_at lw_m1 36 rfl) rfl
theorem q431 : (Jvm.Cond.selects "SecretBuyers$Must" ({ cls := "java/lang/Object", name := "getClass", desc := "()Ljava/lang/Class;" } : Jvm.MethodName) ({ cls := "java/lang/Object", name := "getClass", desc := "()Ljava/lang/Class;" } : Jvm.MethodName)) ∈ lw_all := lw_g (lw_at lw_m2 98 rfl) rfl
theorem q1020 : (Jvm.Cond.selects "SecretBuyers$Must" ({ cls := "java/lang/Object", name := "equals", desc := "(Ljava/lang/Object;)Z" } : Jvm.MethodName) ({ cls := "java/lang/Object", name := "equals", desc := "(Ljava/lang/Object;)Z" } : Jvm.MethodName)) ∈ lw_all := lw_g (lw_at lw_m4 207 rfl) rfl
theorem q1144 : (Jvm.Cond.instantiable "SecretBuyers$Must" (1 : Nat)) ∈ lw_all := lw_g (lw_at lw_m5 91 rfl) rfl
theorem q1146 : (Jvm.Cond.instanceMethod ({ cls := "SecretBuyers$Must", name := "<init>", desc := "(LSecretBuyers$Exp;)V" } : Jvm.MethodName)) ∈ lw_all := lw_g (lw_at lw_m5 93 rfl) rfl
theorem q1147 : (Jvm.Cond.code ({ cls := "SecretBuyers$Must", name := "<init>", desc := "(LSecretBuyers$Exp;)V" } : Jvm.MethodName) prog_11_method_1_code (2 : Nat) (Option.none : Option Jvm.ClassFile.FieldType)) ∈ lw_all := lw_g (lw_at lw_m5 94 rfl) rfl
theorem q1148 : (Jvm.Cond.methodLink "SecretBuyers$Must" (1 : Nat) ({ cls := "SecretBuyers$Line", name := "<init>", desc := "(LSecretBuyers$Exp;)V" } : Jvm.MethodName)) ∈ lw_all := lw_g (lw_at lw_m5 95 rfl) rfl
theorem q1153 : (Jvm.Cond.laysFinal "SecretBuyers$Must" "SecretBuyers$Line" "when" "LSecretBuyers$Exp;") ∈ lw_all := lw_g (lw_at lw_m5 100 rfl) rfl
theorem q1155 : (Jvm.Cond.superclass "SecretBuyers$Must" "SecretBuyers$Line") ∈ lw_all := lw_g (lw_at lw_m5 102 rfl) rfl
theorem q1296 : (Jvm.Cond.selects "SecretBuyers$Must" ({ cls := "SecretBuyers$Line", name := "fails", desc := "(LSecretBuyers$Ask;)Z" } : Jvm.MethodName) ({ cls := "SecretBuyers$Must", name := "fails", desc := "(LSecretBuyers$Ask;)Z" } : Jvm.MethodName)) ∈ lw_all := lw_g (lw_at lw_m6 3 rfl) rfl
theorem q1297 : (Jvm.Cond.instanceMethod ({ cls := "SecretBuyers$Must", name := "fails", desc := "(LSecretBuyers$Ask;)Z" } : Jvm.MethodName)) ∈ lw_all := lw_g (lw_at lw_m6 4 rfl) rfl
theorem q1298 : (Jvm.Cond.code ({ cls := "SecretBuyers$Must", name := "fails", desc := "(LSecretBuyers$Ask;)Z" } : Jvm.MethodName) prog_11_method_2_code (2 : Nat) (Option.some Jvm.ClassFile.FieldType.boolean)) ∈ lw_all := lw_g (lw_at lw_m6 5 rfl) rfl
theorem q1299 : (Jvm.Cond.methodLink "SecretBuyers$Must" (7 : Nat) ({ cls := "SecretBuyers$Must", name := "holds", desc := "(LSecretBuyers$Ask;)Z" } : Jvm.MethodName)) ∈ lw_all := lw_g (lw_at lw_m6 6 rfl) rfl
theorem q1300 : (Jvm.Cond.sameMethod "SecretBuyers$Must" "SecretBuyers$Line" "holds" "(LSecretBuyers$Ask;)Z") ∈ lw_all := lw_g (lw_at lw_m6 7 rfl) rfl
theorem q1302 : (Jvm.Cond.selects "SecretBuyers$Must" ({ cls := "SecretBuyers$Must", name := "holds", desc := "(LSecretBuyers$Ask;)Z" } : Jvm.MethodName) ({ cls := "SecretBuyers$Line", name := "holds", desc := "(LSecretBuyers$Ask;)Z" } : Jvm.MethodName)) ∈ lw_all := lw_g (lw_at lw_m6 9 rfl) rfl
theorem q1316 : (Jvm.Cond.selects "SecretBuyers$Must" ({ cls := "SecretBuyers$Line", name := "adds", desc := "(LSecretBuyers$Ask;)I" } : Jvm.MethodName) ({ cls := "SecretBuyers$Line", name := "adds", desc := "(LSecretBuyers$Ask;)I" } : Jvm.MethodName)) ∈ lw_all := lw_g (lw_at lw_m6 23 rfl) rfl
theorem q1331 : (Jvm.Cond.selects "SecretBuyers$Must" ({ cls := "SecretBuyers$Line", name := "bonus", desc := "()I" } : Jvm.MethodName) ({ cls := "SecretBuyers$Line", name := "bonus", desc := "()I" } : Jvm.MethodName)) ∈ lw_all := lw_g (lw_at lw_m6 38 rfl) rfl
theorem q2156 : (Jvm.Cond.selects "SecretBuyers$Must" ({ cls := "SecretBuyers$Line", name := "holds", desc := "(LSecretBuyers$Ask;)Z" } : Jvm.MethodName) ({ cls := "SecretBuyers$Line", name := "holds", desc := "(LSecretBuyers$Ask;)Z" } : Jvm.MethodName)) ∈ lw_all := lw_g (lw_at lw_m9 143 rfl) rfl
theorem q2165 : (Jvm.Cond.castable "SecretBuyers$Must" "SecretBuyers$Line") ∈ lw_tbl := lw_at lw_m9 152 rfl
theorem q2184 : (Jvm.Cond.castable "SecretBuyers$Must" "java/lang/Object") ∈ lw_tbl := lw_at lw_m9 171 rfl
theorem in_X18 : ∀ w ∈ wsX180, w ∈ lw_all := lw_in wsX180 [1153] (by decide +kernel) (by decide +kernel)
/-! SecretBuyers$Add -/
set_option maxRecDepth 100000
def RX19 : String := "SecretBuyers$Add"
def TX19 : u_T := fun k => match k with
  | 0 => ("SecretBuyers$Line", "when", "LSecretBuyers$Exp;", true)
  | _ => ("SecretBuyers$Add", "how", "LSecretBuyers$Exp;", true)
def tyX19 : Nat → FieldType := fun k => match k with
  | 0 => .object "SecretBuyers$Exp"
  | _ => .object "SecretBuyers$Exp"
abbrev wsX190 : List Cond := u_ws RX19 TX19 2
theorem nmX19 : ∀ a, a < 2 → ∀ b, b < 2 → a ≠ b → (TX19 a).2.1 ≠ (TX19 b).2.1 := by decide +kernel
theorem tyX19_ok : ∀ k, k < 2 → parseFieldDescriptor (TX19 k).2.2.1 = some (tyX19 k) := by decide +kernel
abbrev cX19_init : ByteArray := prog_3_method_1_code
def yX19_init : MethodName := ⟨RX19, "<init>", "(LSecretBuyers$Exp;LSecretBuyers$Exp;)V"⟩
def dkwX19_init_0 : List UInt8 := [42, 44, 183, 0, 1, 42, 43, 181, 0, 7, 177]
abbrev dktX19_init_0 : List UInt8 := dkwX19_init_0 ++ []
theorem dksX19_init_0 : cX19_init.data.toList.drop 0 = dktX19_init_0 := by decide +kernel
theorem dX19_init_0 : decode cX19_init 0 = .ok (.aload_n 0, 1) := dk_42 (dk_at dksX19_init_0 0 rfl rfl)
theorem dX19_init_1 : decode cX19_init 1 = .ok (.aload_n 2, 1) := dk_44 (dk_at dksX19_init_0 1 rfl rfl)
theorem dX19_init_2 : decode cX19_init 2 = .ok (.invokespecial 1, 3) := dk_183 0 1 (dk_at dksX19_init_0 2 rfl rfl)
theorem dX19_init_5 : decode cX19_init 5 = .ok (.aload_n 0, 1) := dk_42 (dk_at dksX19_init_0 5 rfl rfl)
theorem dX19_init_6 : decode cX19_init 6 = .ok (.aload_n 1, 1) := dk_43 (dk_at dksX19_init_0 6 rfl rfl)
theorem dX19_init_7 : decode cX19_init 7 = .ok (.putfield 7, 3) := dk_181 0 7 (dk_at dksX19_init_0 7 rfl rfl)
theorem dX19_init_10 : decode cX19_init 10 = .ok (.return_, 1) := dk_177 (dk_at dksX19_init_0 10 rfl rfl)
abbrev cX19_adds : ByteArray := prog_3_method_2_code
def yX19_adds : MethodName := ⟨RX19, "adds", "(LSecretBuyers$Ask;)I"⟩
def dkwX19_adds_0 : List UInt8 := [42, 180, 0, 7, 43, 182, 0, 13, 172]
abbrev dktX19_adds_0 : List UInt8 := dkwX19_adds_0 ++ []
theorem dksX19_adds_0 : cX19_adds.data.toList.drop 0 = dktX19_adds_0 := by decide +kernel
theorem dX19_adds_0 : decode cX19_adds 0 = .ok (.aload_n 0, 1) := dk_42 (dk_at dksX19_adds_0 0 rfl rfl)
theorem dX19_adds_1 : decode cX19_adds 1 = .ok (.getfield 7, 3) := dk_180 0 7 (dk_at dksX19_adds_0 1 rfl rfl)
theorem dX19_adds_4 : decode cX19_adds 4 = .ok (.aload_n 1, 1) := dk_43 (dk_at dksX19_adds_0 4 rfl rfl)
theorem dX19_adds_5 : decode cX19_adds 5 = .ok (.invokevirtual 13, 3) := dk_182 0 13 (dk_at dksX19_adds_0 5 rfl rfl)
theorem dX19_adds_8 : decode cX19_adds 8 = .ok (.ireturn, 1) := dk_172 (dk_at dksX19_adds_0 8 rfl rfl)
theorem q130 : (Jvm.Cond.initialized "SecretBuyers$Add") ∈ lw_all := lw_g (lw_at lw_m1 37 rfl) rfl
theorem q425 : (Jvm.Cond.selects "SecretBuyers$Add" ({ cls := "java/lang/Object", name := "getClass", desc := "()Ljava/lang/Class;" } : Jvm.MethodName) ({ cls := "java/lang/Object", name := "getClass", desc := "()Ljava/lang/Class;" } : Jvm.MethodName)) ∈ lw_all := lw_g (lw_at lw_m2 92 rfl) rfl
theorem q1014 : (Jvm.Cond.selects "SecretBuyers$Add" ({ cls := "java/lang/Object", name := "equals", desc := "(Ljava/lang/Object;)Z" } : Jvm.MethodName) ({ cls := "java/lang/Object", name := "equals", desc := "(Ljava/lang/Object;)Z" } : Jvm.MethodName)) ∈ lw_all := lw_g (lw_at lw_m4 201 rfl) rfl
theorem q1166 : (Jvm.Cond.instantiable "SecretBuyers$Add" (2 : Nat)) ∈ lw_all := lw_g (lw_at lw_m5 113 rfl) rfl
theorem q1168 : (Jvm.Cond.instanceMethod ({ cls := "SecretBuyers$Add", name := "<init>", desc := "(LSecretBuyers$Exp;LSecretBuyers$Exp;)V" } : Jvm.MethodName)) ∈ lw_all := lw_g (lw_at lw_m5 115 rfl) rfl
theorem q1169 : (Jvm.Cond.code ({ cls := "SecretBuyers$Add", name := "<init>", desc := "(LSecretBuyers$Exp;LSecretBuyers$Exp;)V" } : Jvm.MethodName) prog_3_method_1_code (3 : Nat) (Option.none : Option Jvm.ClassFile.FieldType)) ∈ lw_all := lw_g (lw_at lw_m5 116 rfl) rfl
theorem q1170 : (Jvm.Cond.methodLink "SecretBuyers$Add" (1 : Nat) ({ cls := "SecretBuyers$Line", name := "<init>", desc := "(LSecretBuyers$Exp;)V" } : Jvm.MethodName)) ∈ lw_all := lw_g (lw_at lw_m5 117 rfl) rfl
theorem q1171 : (Jvm.Cond.fieldLink "SecretBuyers$Add" (7 : Nat) "SecretBuyers$Add" "how" "LSecretBuyers$Exp;") ∈ lw_all := lw_g (lw_at lw_m5 118 rfl) rfl
theorem q1172 : (Jvm.Cond.laysFinal "SecretBuyers$Add" "SecretBuyers$Add" "how" "LSecretBuyers$Exp;") ∈ lw_all := lw_g (lw_at lw_m5 119 rfl) rfl
theorem q1173 : (Jvm.Cond.soleField "SecretBuyers$Add" "how") ∈ lw_all := lw_g (lw_at lw_m5 120 rfl) rfl
theorem q1174 : (Jvm.Cond.laysFinal "SecretBuyers$Add" "SecretBuyers$Line" "when" "LSecretBuyers$Exp;") ∈ lw_all := lw_g (lw_at lw_m5 121 rfl) rfl
theorem q1175 : (Jvm.Cond.superclass "SecretBuyers$Add" "SecretBuyers$Line") ∈ lw_all := lw_g (lw_at lw_m5 122 rfl) rfl
theorem q1294 : (Jvm.Cond.selects "SecretBuyers$Add" ({ cls := "SecretBuyers$Line", name := "fails", desc := "(LSecretBuyers$Ask;)Z" } : Jvm.MethodName) ({ cls := "SecretBuyers$Line", name := "fails", desc := "(LSecretBuyers$Ask;)Z" } : Jvm.MethodName)) ∈ lw_all := lw_g (lw_at lw_m6 1 rfl) rfl
theorem q1311 : (Jvm.Cond.selects "SecretBuyers$Add" ({ cls := "SecretBuyers$Line", name := "adds", desc := "(LSecretBuyers$Ask;)I" } : Jvm.MethodName) ({ cls := "SecretBuyers$Add", name := "adds", desc := "(LSecretBuyers$Ask;)I" } : Jvm.MethodName)) ∈ lw_all := lw_g (lw_at lw_m6 18 rfl) rfl
theorem q1312 : (Jvm.Cond.instanceMethod ({ cls := "SecretBuyers$Add", name := "adds", desc := "(LSecretBuyers$Ask;)I" } : Jvm.MethodName)) ∈ lw_all := lw_g (lw_at lw_m6 19 rfl) rfl
theorem q1313 : (Jvm.Cond.code ({ cls := "SecretBuyers$Add", name := "adds", desc := "(LSecretBuyers$Ask;)I" } : Jvm.MethodName) prog_3_method_2_code (2 : Nat) (Option.some Jvm.ClassFile.FieldType.int)) ∈ lw_all := lw_g (lw_at lw_m6 20 rfl) rfl
theorem q1314 : (Jvm.Cond.methodLink "SecretBuyers$Add" (13 : Nat) ({ cls := "SecretBuyers$Exp", name := "value", desc := "(LSecretBuyers$Ask;)I" } : Jvm.MethodName)) ∈ lw_all := lw_g (lw_at lw_m6 21 rfl) rfl
theorem q1327 : (Jvm.Cond.selects "SecretBuyers$Add" ({ cls := "SecretBuyers$Line", name := "bonus", desc := "()I" } : Jvm.MethodName) ({ cls := "SecretBuyers$Line", name := "bonus", desc := "()I" } : Jvm.MethodName)) ∈ lw_all := lw_g (lw_at lw_m6 34 rfl) rfl
theorem q2154 : (Jvm.Cond.selects "SecretBuyers$Add" ({ cls := "SecretBuyers$Line", name := "holds", desc := "(LSecretBuyers$Ask;)Z" } : Jvm.MethodName) ({ cls := "SecretBuyers$Line", name := "holds", desc := "(LSecretBuyers$Ask;)Z" } : Jvm.MethodName)) ∈ lw_all := lw_g (lw_at lw_m9 141 rfl) rfl
theorem q2163 : (Jvm.Cond.castable "SecretBuyers$Add" "SecretBuyers$Line") ∈ lw_tbl := lw_at lw_m9 150 rfl
theorem q2185 : (Jvm.Cond.castable "SecretBuyers$Add" "java/lang/Object") ∈ lw_tbl := lw_at lw_m9 172 rfl
theorem in_X19 : ∀ w ∈ wsX190, w ∈ lw_all := lw_in wsX190 [1174, 1172] (by decide +kernel) (by decide +kernel)
/-! SecretBuyers$Bonus -/
set_option maxRecDepth 100000
def RX20 : String := "SecretBuyers$Bonus"
def TX20 : u_T := fun k => match k with
  | 0 => ("SecretBuyers$Line", "when", "LSecretBuyers$Exp;", true)
  | _ => ("SecretBuyers$Bonus", "n", "I", true)
def tyX20 : Nat → FieldType := fun k => match k with
  | 0 => .object "SecretBuyers$Exp"
  | _ => .int
abbrev wsX200 : List Cond := u_ws RX20 TX20 2
theorem nmX20 : ∀ a, a < 2 → ∀ b, b < 2 → a ≠ b → (TX20 a).2.1 ≠ (TX20 b).2.1 := by decide +kernel
theorem tyX20_ok : ∀ k, k < 2 → parseFieldDescriptor (TX20 k).2.2.1 = some (tyX20 k) := by decide +kernel
abbrev cX20_init : ByteArray := prog_6_method_1_code
def yX20_init : MethodName := ⟨RX20, "<init>", "(ILSecretBuyers$Exp;)V"⟩
def dkwX20_init_0 : List UInt8 := [42, 44, 183, 0, 1, 42, 27, 181, 0, 7, 177]
abbrev dktX20_init_0 : List UInt8 := dkwX20_init_0 ++ []
theorem dksX20_init_0 : cX20_init.data.toList.drop 0 = dktX20_init_0 := by decide +kernel
theorem dX20_init_0 : decode cX20_init 0 = .ok (.aload_n 0, 1) := dk_42 (dk_at dksX20_init_0 0 rfl rfl)
theorem dX20_init_1 : decode cX20_init 1 = .ok (.aload_n 2, 1) := dk_44 (dk_at dksX20_init_0 1 rfl rfl)
theorem dX20_init_2 : decode cX20_init 2 = .ok (.invokespecial 1, 3) := dk_183 0 1 (dk_at dksX20_init_0 2 rfl rfl)
theorem dX20_init_5 : decode cX20_init 5 = .ok (.aload_n 0, 1) := dk_42 (dk_at dksX20_init_0 5 rfl rfl)
theorem dX20_init_6 : decode cX20_init 6 = .ok (.iload_n 1, 1) := dk_27 (dk_at dksX20_init_0 6 rfl rfl)
theorem dX20_init_7 : decode cX20_init 7 = .ok (.putfield 7, 3) := dk_181 0 7 (dk_at dksX20_init_0 7 rfl rfl)
theorem dX20_init_10 : decode cX20_init 10 = .ok (.return_, 1) := dk_177 (dk_at dksX20_init_0 10 rfl rfl)
abbrev cX20_bonus : ByteArray := prog_6_method_2_code
def yX20_bonus : MethodName := ⟨RX20, "bonus", "()I"⟩
theorem dX20_bonus_0 : decode cX20_bonus 0 = .ok (.aload_n 0, 1) := by decide +kernel
theorem dX20_bonus_1 : decode cX20_bonus 1 = .ok (.getfield 7, 3) := by decide +kernel
theorem dX20_bonus_4 : decode cX20_bonus 4 = .ok (.ireturn, 1) := by decide +kernel
theorem q131 : (Jvm.Cond.initialized "SecretBuyers$Bonus") ∈ lw_all := lw_g (lw_at lw_m1 38 rfl) rfl
theorem q428 : (Jvm.Cond.selects "SecretBuyers$Bonus" ({ cls := "java/lang/Object", name := "getClass", desc := "()Ljava/lang/Class;" } : Jvm.MethodName) ({ cls := "java/lang/Object", name := "getClass", desc := "()Ljava/lang/Class;" } : Jvm.MethodName)) ∈ lw_all := lw_g (lw_at lw_m2 95 rfl) rfl
theorem q1017 : (Jvm.Cond.selects "SecretBuyers$Bonus" ({ cls := "java/lang/Object", name := "equals", desc := "(Ljava/lang/Object;)Z" } : Jvm.MethodName) ({ cls := "java/lang/Object", name := "equals", desc := "(Ljava/lang/Object;)Z" } : Jvm.MethodName)) ∈ lw_all := lw_g (lw_at lw_m4 204 rfl) rfl
theorem q1177 : (Jvm.Cond.instantiable "SecretBuyers$Bonus" (2 : Nat)) ∈ lw_all := lw_g (lw_at lw_m5 124 rfl) rfl
theorem q1179 : (Jvm.Cond.instanceMethod ({ cls := "SecretBuyers$Bonus", name := "<init>", desc := "(ILSecretBuyers$Exp;)V" } : Jvm.MethodName)) ∈ lw_all := lw_g (lw_at lw_m5 126 rfl) rfl
theorem q1180 : (Jvm.Cond.code ({ cls := "SecretBuyers$Bonus", name := "<init>", desc := "(ILSecretBuyers$Exp;)V" } : Jvm.MethodName) prog_6_method_1_code (3 : Nat) (Option.none : Option Jvm.ClassFile.FieldType)) ∈ lw_all := lw_g (lw_at lw_m5 127 rfl) rfl
theorem q1181 : (Jvm.Cond.methodLink "SecretBuyers$Bonus" (1 : Nat) ({ cls := "SecretBuyers$Line", name := "<init>", desc := "(LSecretBuyers$Exp;)V" } : Jvm.MethodName)) ∈ lw_all := lw_g (lw_at lw_m5 128 rfl) rfl
theorem q1182 : (Jvm.Cond.fieldLink "SecretBuyers$Bonus" (7 : Nat) "SecretBuyers$Bonus" "n" "I") ∈ lw_all := lw_g (lw_at lw_m5 129 rfl) rfl
theorem q1183 : (Jvm.Cond.laysFinal "SecretBuyers$Bonus" "SecretBuyers$Bonus" "n" "I") ∈ lw_all := lw_g (lw_at lw_m5 130 rfl) rfl
theorem q1184 : (Jvm.Cond.soleField "SecretBuyers$Bonus" "n") ∈ lw_all := lw_g (lw_at lw_m5 131 rfl) rfl
theorem q1185 : (Jvm.Cond.laysFinal "SecretBuyers$Bonus" "SecretBuyers$Line" "when" "LSecretBuyers$Exp;") ∈ lw_all := lw_g (lw_at lw_m5 132 rfl) rfl
theorem q1186 : (Jvm.Cond.superclass "SecretBuyers$Bonus" "SecretBuyers$Line") ∈ lw_all := lw_g (lw_at lw_m5 133 rfl) rfl
theorem q1295 : (Jvm.Cond.selects "SecretBuyers$Bonus" ({ cls := "SecretBuyers$Line", name := "fails", desc := "(LSecretBuyers$Ask;)Z" } : Jvm.MethodName) ({ cls := "SecretBuyers$Line", name := "fails", desc := "(LSecretBuyers$Ask;)Z" } : Jvm.MethodName)) ∈ lw_all := lw_g (lw_at lw_m6 2 rfl) rfl
theorem q1315 : (Jvm.Cond.selects "SecretBuyers$Bonus" ({ cls := "SecretBuyers$Line", name := "adds", desc := "(LSecretBuyers$Ask;)I" } : Jvm.MethodName) ({ cls := "SecretBuyers$Line", name := "adds", desc := "(LSecretBuyers$Ask;)I" } : Jvm.MethodName)) ∈ lw_all := lw_g (lw_at lw_m6 22 rfl) rfl
theorem q1328 : (Jvm.Cond.selects "SecretBuyers$Bonus" ({ cls := "SecretBuyers$Line", name := "bonus", desc := "()I" } : Jvm.MethodName) ({ cls := "SecretBuyers$Bonus", name := "bonus", desc := "()I" } : Jvm.MethodName)) ∈ lw_all := lw_g (lw_at lw_m6 35 rfl) rfl
theorem q1329 : (Jvm.Cond.instanceMethod ({ cls := "SecretBuyers$Bonus", name := "bonus", desc := "()I" } : Jvm.MethodName)) ∈ lw_all := lw_g (lw_at lw_m6 36 rfl) rfl
theorem q1330 : (Jvm.Cond.code ({ cls := "SecretBuyers$Bonus", name := "bonus", desc := "()I" } : Jvm.MethodName) prog_6_method_2_code (1 : Nat) (Option.some Jvm.ClassFile.FieldType.int)) ∈ lw_all := lw_g (lw_at lw_m6 37 rfl) rfl
theorem q2155 : (Jvm.Cond.selects "SecretBuyers$Bonus" ({ cls := "SecretBuyers$Line", name := "holds", desc := "(LSecretBuyers$Ask;)Z" } : Jvm.MethodName) ({ cls := "SecretBuyers$Line", name := "holds", desc := "(LSecretBuyers$Ask;)Z" } : Jvm.MethodName)) ∈ lw_all := lw_g (lw_at lw_m9 142 rfl) rfl
theorem q2164 : (Jvm.Cond.castable "SecretBuyers$Bonus" "SecretBuyers$Line") ∈ lw_tbl := lw_at lw_m9 151 rfl
theorem q2186 : (Jvm.Cond.castable "SecretBuyers$Bonus" "java/lang/Object") ∈ lw_tbl := lw_at lw_m9 173 rfl
theorem in_X20 : ∀ w ∈ wsX200, w ∈ lw_all := lw_in wsX200 [1185, 1183] (by decide +kernel) (by decide +kernel)
/-! SecretBuyers$Shop -/
set_option maxRecDepth 100000
def RX5 : String := "SecretBuyers$Shop"
def TX5 : u_T := fun k => match k with
  | 0 => ("SecretBuyers$Shop", "number", "I", true)
  | 1 => ("SecretBuyers$Shop", "chain", "I", true)
  | 2 => ("SecretBuyers$Shop", "from", "I", true)
  | 3 => ("SecretBuyers$Shop", "to", "I", true)
  | 4 => ("SecretBuyers$Shop", "place", "LSecretBuyers$Place;", true)
  | _ => ("SecretBuyers$Shop", "records", "Z", true)
def tyX5 : Nat → FieldType := fun k => match k with
  | 0 => .int
  | 1 => .int
  | 2 => .int
  | 3 => .int
  | 4 => .object "SecretBuyers$Place"
  | _ => .boolean
abbrev wsX50 : List Cond := u_ws RX5 TX5 6
theorem nmX5 : ∀ a, a < 6 → ∀ b, b < 6 → a ≠ b → (TX5 a).2.1 ≠ (TX5 b).2.1 := by decide +kernel
theorem tyX5_ok : ∀ k, k < 6 → parseFieldDescriptor (TX5 k).2.2.1 = some (tyX5 k) := by decide +kernel
abbrev cX5_init : ByteArray := prog_17_method_1_code
def yX5_init : MethodName := ⟨RX5, "<init>", "(ILSecretBuyers$Place;IIIZ)V"⟩
def dkwX5_init_1 : List UInt8 := [181, 0, 20, 42, 21, 5, 181, 0, 23, 42, 21, 6, 181, 0, 26, 177]
abbrev dktX5_init_1 : List UInt8 := dkwX5_init_1 ++ []
def dkwX5_init_0 : List UInt8 := [42, 183, 0, 1, 42, 27, 181, 0, 7, 42, 44, 181, 0, 13, 42, 29, 181, 0, 17, 42, 21, 4]
abbrev dktX5_init_0 : List UInt8 := dkwX5_init_0 ++ dktX5_init_1
theorem dksX5_init_0 : cX5_init.data.toList.drop 0 = dktX5_init_0 := by decide +kernel
theorem dksX5_init_1 : cX5_init.data.toList.drop 22 = dktX5_init_1 := dk_seg dksX5_init_0 22 rfl rfl
theorem dX5_init_0 : decode cX5_init 0 = .ok (.aload_n 0, 1) := dk_42 (dk_at dksX5_init_0 0 rfl rfl)
theorem dX5_init_1 : decode cX5_init 1 = .ok (.invokespecial 1, 3) := dk_183 0 1 (dk_at dksX5_init_0 1 rfl rfl)
theorem dX5_init_4 : decode cX5_init 4 = .ok (.aload_n 0, 1) := dk_42 (dk_at dksX5_init_0 4 rfl rfl)
theorem dX5_init_5 : decode cX5_init 5 = .ok (.iload_n 1, 1) := dk_27 (dk_at dksX5_init_0 5 rfl rfl)
theorem dX5_init_6 : decode cX5_init 6 = .ok (.putfield 7, 3) := dk_181 0 7 (dk_at dksX5_init_0 6 rfl rfl)
theorem dX5_init_9 : decode cX5_init 9 = .ok (.aload_n 0, 1) := dk_42 (dk_at dksX5_init_0 9 rfl rfl)
theorem dX5_init_10 : decode cX5_init 10 = .ok (.aload_n 2, 1) := dk_44 (dk_at dksX5_init_0 10 rfl rfl)
theorem dX5_init_11 : decode cX5_init 11 = .ok (.putfield 13, 3) := dk_181 0 13 (dk_at dksX5_init_0 11 rfl rfl)
theorem dX5_init_14 : decode cX5_init 14 = .ok (.aload_n 0, 1) := dk_42 (dk_at dksX5_init_0 14 rfl rfl)
theorem dX5_init_15 : decode cX5_init 15 = .ok (.iload_n 3, 1) := dk_29 (dk_at dksX5_init_0 15 rfl rfl)
theorem dX5_init_16 : decode cX5_init 16 = .ok (.putfield 17, 3) := dk_181 0 17 (dk_at dksX5_init_0 16 rfl rfl)
theorem dX5_init_19 : decode cX5_init 19 = .ok (.aload_n 0, 1) := dk_42 (dk_at dksX5_init_0 19 rfl rfl)
theorem dX5_init_20 : decode cX5_init 20 = .ok (.iload 4, 2) := dk_21 4 (dk_at dksX5_init_0 20 rfl rfl)
theorem dX5_init_22 : decode cX5_init 22 = .ok (.putfield 20, 3) := dk_181 0 20 (dk_at dksX5_init_1 0 rfl rfl)
theorem dX5_init_25 : decode cX5_init 25 = .ok (.aload_n 0, 1) := dk_42 (dk_at dksX5_init_1 3 rfl rfl)
theorem dX5_init_26 : decode cX5_init 26 = .ok (.iload 5, 2) := dk_21 5 (dk_at dksX5_init_1 4 rfl rfl)
theorem dX5_init_28 : decode cX5_init 28 = .ok (.putfield 23, 3) := dk_181 0 23 (dk_at dksX5_init_1 6 rfl rfl)
theorem dX5_init_31 : decode cX5_init 31 = .ok (.aload_n 0, 1) := dk_42 (dk_at dksX5_init_1 9 rfl rfl)
theorem dX5_init_32 : decode cX5_init 32 = .ok (.iload 6, 2) := dk_21 6 (dk_at dksX5_init_1 10 rfl rfl)
theorem dX5_init_34 : decode cX5_init 34 = .ok (.putfield 26, 3) := dk_181 0 26 (dk_at dksX5_init_1 12 rfl rfl)
theorem dX5_init_37 : decode cX5_init 37 = .ok (.return_, 1) := dk_177 (dk_at dksX5_init_1 15 rfl rfl)
theorem q101 : (Jvm.Cond.initialized "SecretBuyers$Shop") ∈ lw_all := lw_g (lw_at lw_m1 8 rfl) rfl
theorem q345 : (Jvm.Cond.instantiable "SecretBuyers$Shop" (6 : Nat)) ∈ lw_all := lw_g (lw_at lw_m2 12 rfl) rfl
theorem q360 : (Jvm.Cond.instanceMethod ({ cls := "SecretBuyers$Shop", name := "<init>", desc := "(ILSecretBuyers$Place;IIIZ)V" } : Jvm.MethodName)) ∈ lw_all := lw_g (lw_at lw_m2 27 rfl) rfl
theorem q361 : (Jvm.Cond.code ({ cls := "SecretBuyers$Shop", name := "<init>", desc := "(ILSecretBuyers$Place;IIIZ)V" } : Jvm.MethodName) prog_17_method_1_code (7 : Nat) (Option.none : Option Jvm.ClassFile.FieldType)) ∈ lw_all := lw_g (lw_at lw_m2 28 rfl) rfl
theorem q362 : (Jvm.Cond.methodLink "SecretBuyers$Shop" (1 : Nat) ({ cls := "java/lang/Object", name := "<init>", desc := "()V" } : Jvm.MethodName)) ∈ lw_all := lw_g (lw_at lw_m2 29 rfl) rfl
theorem q363 : (Jvm.Cond.fieldLink "SecretBuyers$Shop" (7 : Nat) "SecretBuyers$Shop" "number" "I") ∈ lw_all := lw_g (lw_at lw_m2 30 rfl) rfl
theorem q365 : (Jvm.Cond.fieldLink "SecretBuyers$Shop" (17 : Nat) "SecretBuyers$Shop" "chain" "I") ∈ lw_all := lw_g (lw_at lw_m2 32 rfl) rfl
theorem q367 : (Jvm.Cond.fieldLink "SecretBuyers$Shop" (20 : Nat) "SecretBuyers$Shop" "from" "I") ∈ lw_all := lw_g (lw_at lw_m2 34 rfl) rfl
theorem q369 : (Jvm.Cond.fieldLink "SecretBuyers$Shop" (23 : Nat) "SecretBuyers$Shop" "to" "I") ∈ lw_all := lw_g (lw_at lw_m2 36 rfl) rfl
theorem q371 : (Jvm.Cond.fieldLink "SecretBuyers$Shop" (13 : Nat) "SecretBuyers$Shop" "place" "LSecretBuyers$Place;") ∈ lw_all := lw_g (lw_at lw_m2 38 rfl) rfl
theorem q374 : (Jvm.Cond.fieldLink "SecretBuyers$Shop" (26 : Nat) "SecretBuyers$Shop" "records" "Z") ∈ lw_all := lw_g (lw_at lw_m2 41 rfl) rfl
theorem q376 : (Jvm.Cond.laysFinal "SecretBuyers$Shop" "SecretBuyers$Shop" "number" "I") ∈ lw_all := lw_g (lw_at lw_m2 43 rfl) rfl
theorem q377 : (Jvm.Cond.soleField "SecretBuyers$Shop" "number") ∈ lw_all := lw_g (lw_at lw_m2 44 rfl) rfl
theorem q378 : (Jvm.Cond.laysFinal "SecretBuyers$Shop" "SecretBuyers$Shop" "chain" "I") ∈ lw_all := lw_g (lw_at lw_m2 45 rfl) rfl
theorem q379 : (Jvm.Cond.soleField "SecretBuyers$Shop" "chain") ∈ lw_all := lw_g (lw_at lw_m2 46 rfl) rfl
theorem q380 : (Jvm.Cond.laysFinal "SecretBuyers$Shop" "SecretBuyers$Shop" "from" "I") ∈ lw_all := lw_g (lw_at lw_m2 47 rfl) rfl
theorem q381 : (Jvm.Cond.soleField "SecretBuyers$Shop" "from") ∈ lw_all := lw_g (lw_at lw_m2 48 rfl) rfl
theorem q382 : (Jvm.Cond.laysFinal "SecretBuyers$Shop" "SecretBuyers$Shop" "to" "I") ∈ lw_all := lw_g (lw_at lw_m2 49 rfl) rfl
theorem q383 : (Jvm.Cond.soleField "SecretBuyers$Shop" "to") ∈ lw_all := lw_g (lw_at lw_m2 50 rfl) rfl
theorem q384 : (Jvm.Cond.laysFinal "SecretBuyers$Shop" "SecretBuyers$Shop" "place" "LSecretBuyers$Place;") ∈ lw_all := lw_g (lw_at lw_m2 51 rfl) rfl
theorem q385 : (Jvm.Cond.soleField "SecretBuyers$Shop" "place") ∈ lw_all := lw_g (lw_at lw_m2 52 rfl) rfl
theorem q386 : (Jvm.Cond.laysFinal "SecretBuyers$Shop" "SecretBuyers$Shop" "records" "Z") ∈ lw_all := lw_g (lw_at lw_m2 53 rfl) rfl
theorem q387 : (Jvm.Cond.soleField "SecretBuyers$Shop" "records") ∈ lw_all := lw_g (lw_at lw_m2 54 rfl) rfl
theorem q388 : (Jvm.Cond.superclass "SecretBuyers$Shop" "java/lang/Object") ∈ lw_all := lw_g (lw_at lw_m2 55 rfl) rfl
theorem q437 : (Jvm.Cond.selects "SecretBuyers$Shop" ({ cls := "java/lang/Object", name := "getClass", desc := "()Ljava/lang/Class;" } : Jvm.MethodName) ({ cls := "java/lang/Object", name := "getClass", desc := "()Ljava/lang/Class;" } : Jvm.MethodName)) ∈ lw_all := lw_g (lw_at lw_m2 104 rfl) rfl
theorem q1026 : (Jvm.Cond.selects "SecretBuyers$Shop" ({ cls := "java/lang/Object", name := "equals", desc := "(Ljava/lang/Object;)Z" } : Jvm.MethodName) ({ cls := "java/lang/Object", name := "equals", desc := "(Ljava/lang/Object;)Z" } : Jvm.MethodName)) ∈ lw_all := lw_g (lw_at lw_m4 213 rfl) rfl
theorem q2167 : (Jvm.Cond.castable "SecretBuyers$Shop" "java/lang/Object") ∈ lw_tbl := lw_at lw_m9 154 rfl
theorem in_X5 : ∀ w ∈ wsX50, w ∈ lw_all := lw_in wsX50 [376, 378, 380, 382, 384, 386] (by decide +kernel) (by decide +kernel)
/-! SecretBuyers$Place -/
set_option maxRecDepth 100000
def RX6 : String := "SecretBuyers$Place"
def TX6 : u_T := fun k => match k with
  | 0 => ("SecretBuyers$Place", "x", "I", true)
  | _ => ("SecretBuyers$Place", "y", "I", true)
def tyX6 : Nat → FieldType := fun k => match k with
  | 0 => .int
  | _ => .int
abbrev wsX60 : List Cond := u_ws RX6 TX6 2
theorem nmX6 : ∀ a, a < 2 → ∀ b, b < 2 → a ≠ b → (TX6 a).2.1 ≠ (TX6 b).2.1 := by decide +kernel
theorem tyX6_ok : ∀ k, k < 2 → parseFieldDescriptor (TX6 k).2.2.1 = some (tyX6 k) := by decide +kernel
abbrev cX6_init : ByteArray := prog_14_method_1_code
def yX6_init : MethodName := ⟨RX6, "<init>", "(II)V"⟩
def dkwX6_init_0 : List UInt8 := [42, 183, 0, 1, 42, 27, 181, 0, 7, 42, 28, 181, 0, 13, 177]
abbrev dktX6_init_0 : List UInt8 := dkwX6_init_0 ++ []
theorem dksX6_init_0 : cX6_init.data.toList.drop 0 = dktX6_init_0 := by decide +kernel
theorem dX6_init_0 : decode cX6_init 0 = .ok (.aload_n 0, 1) := dk_42 (dk_at dksX6_init_0 0 rfl rfl)
theorem dX6_init_1 : decode cX6_init 1 = .ok (.invokespecial 1, 3) := dk_183 0 1 (dk_at dksX6_init_0 1 rfl rfl)
theorem dX6_init_4 : decode cX6_init 4 = .ok (.aload_n 0, 1) := dk_42 (dk_at dksX6_init_0 4 rfl rfl)
theorem dX6_init_5 : decode cX6_init 5 = .ok (.iload_n 1, 1) := dk_27 (dk_at dksX6_init_0 5 rfl rfl)
theorem dX6_init_6 : decode cX6_init 6 = .ok (.putfield 7, 3) := dk_181 0 7 (dk_at dksX6_init_0 6 rfl rfl)
theorem dX6_init_9 : decode cX6_init 9 = .ok (.aload_n 0, 1) := dk_42 (dk_at dksX6_init_0 9 rfl rfl)
theorem dX6_init_10 : decode cX6_init 10 = .ok (.iload_n 2, 1) := dk_28 (dk_at dksX6_init_0 10 rfl rfl)
theorem dX6_init_11 : decode cX6_init 11 = .ok (.putfield 13, 3) := dk_181 0 13 (dk_at dksX6_init_0 11 rfl rfl)
theorem dX6_init_14 : decode cX6_init 14 = .ok (.return_, 1) := dk_177 (dk_at dksX6_init_0 14 rfl rfl)
abbrev cX6_way : ByteArray := prog_14_method_2_code
def yX6_way : MethodName := ⟨RX6, "way", "(LSecretBuyers$Place;)I"⟩
def dkwX6_way_1 : List UInt8 := [96, 172]
abbrev dktX6_way_1 : List UInt8 := dkwX6_way_1 ++ []
def dkwX6_way_0 : List UInt8 := [42, 180, 0, 7, 43, 180, 0, 7, 100, 184, 0, 16, 42, 180, 0, 13, 43, 180, 0, 13, 100, 184, 0, 16]
abbrev dktX6_way_0 : List UInt8 := dkwX6_way_0 ++ dktX6_way_1
theorem dksX6_way_0 : cX6_way.data.toList.drop 0 = dktX6_way_0 := by decide +kernel
theorem dksX6_way_1 : cX6_way.data.toList.drop 24 = dktX6_way_1 := dk_seg dksX6_way_0 24 rfl rfl
theorem dX6_way_0 : decode cX6_way 0 = .ok (.aload_n 0, 1) := dk_42 (dk_at dksX6_way_0 0 rfl rfl)
theorem dX6_way_1 : decode cX6_way 1 = .ok (.getfield 7, 3) := dk_180 0 7 (dk_at dksX6_way_0 1 rfl rfl)
theorem dX6_way_4 : decode cX6_way 4 = .ok (.aload_n 1, 1) := dk_43 (dk_at dksX6_way_0 4 rfl rfl)
theorem dX6_way_5 : decode cX6_way 5 = .ok (.getfield 7, 3) := dk_180 0 7 (dk_at dksX6_way_0 5 rfl rfl)
theorem dX6_way_8 : decode cX6_way 8 = .ok (.isub, 1) := dk_100 (dk_at dksX6_way_0 8 rfl rfl)
theorem dX6_way_9 : decode cX6_way 9 = .ok (.invokestatic 16, 3) := dk_184 0 16 (dk_at dksX6_way_0 9 rfl rfl)
theorem dX6_way_12 : decode cX6_way 12 = .ok (.aload_n 0, 1) := dk_42 (dk_at dksX6_way_0 12 rfl rfl)
theorem dX6_way_13 : decode cX6_way 13 = .ok (.getfield 13, 3) := dk_180 0 13 (dk_at dksX6_way_0 13 rfl rfl)
theorem dX6_way_16 : decode cX6_way 16 = .ok (.aload_n 1, 1) := dk_43 (dk_at dksX6_way_0 16 rfl rfl)
theorem dX6_way_17 : decode cX6_way 17 = .ok (.getfield 13, 3) := dk_180 0 13 (dk_at dksX6_way_0 17 rfl rfl)
theorem dX6_way_20 : decode cX6_way 20 = .ok (.isub, 1) := dk_100 (dk_at dksX6_way_0 20 rfl rfl)
theorem dX6_way_21 : decode cX6_way 21 = .ok (.invokestatic 16, 3) := dk_184 0 16 (dk_at dksX6_way_0 21 rfl rfl)
theorem dX6_way_24 : decode cX6_way 24 = .ok (.iadd, 1) := dk_96 (dk_at dksX6_way_1 0 rfl rfl)
theorem dX6_way_25 : decode cX6_way 25 = .ok (.ireturn, 1) := dk_172 (dk_at dksX6_way_1 1 rfl rfl)
theorem q102 : (Jvm.Cond.initialized "SecretBuyers$Place") ∈ lw_all := lw_g (lw_at lw_m1 9 rfl) rfl
theorem q347 : (Jvm.Cond.instantiable "SecretBuyers$Place" (2 : Nat)) ∈ lw_all := lw_g (lw_at lw_m2 14 rfl) rfl
theorem q349 : (Jvm.Cond.instanceMethod ({ cls := "SecretBuyers$Place", name := "<init>", desc := "(II)V" } : Jvm.MethodName)) ∈ lw_all := lw_g (lw_at lw_m2 16 rfl) rfl
theorem q350 : (Jvm.Cond.code ({ cls := "SecretBuyers$Place", name := "<init>", desc := "(II)V" } : Jvm.MethodName) prog_14_method_1_code (3 : Nat) (Option.none : Option Jvm.ClassFile.FieldType)) ∈ lw_all := lw_g (lw_at lw_m2 17 rfl) rfl
theorem q351 : (Jvm.Cond.methodLink "SecretBuyers$Place" (1 : Nat) ({ cls := "java/lang/Object", name := "<init>", desc := "()V" } : Jvm.MethodName)) ∈ lw_all := lw_g (lw_at lw_m2 18 rfl) rfl
theorem q352 : (Jvm.Cond.fieldLink "SecretBuyers$Place" (7 : Nat) "SecretBuyers$Place" "x" "I") ∈ lw_all := lw_g (lw_at lw_m2 19 rfl) rfl
theorem q353 : (Jvm.Cond.fieldLink "SecretBuyers$Place" (13 : Nat) "SecretBuyers$Place" "y" "I") ∈ lw_all := lw_g (lw_at lw_m2 20 rfl) rfl
theorem q354 : (Jvm.Cond.laysFinal "SecretBuyers$Place" "SecretBuyers$Place" "x" "I") ∈ lw_all := lw_g (lw_at lw_m2 21 rfl) rfl
theorem q355 : (Jvm.Cond.soleField "SecretBuyers$Place" "x") ∈ lw_all := lw_g (lw_at lw_m2 22 rfl) rfl
theorem q356 : (Jvm.Cond.laysFinal "SecretBuyers$Place" "SecretBuyers$Place" "y" "I") ∈ lw_all := lw_g (lw_at lw_m2 23 rfl) rfl
theorem q357 : (Jvm.Cond.soleField "SecretBuyers$Place" "y") ∈ lw_all := lw_g (lw_at lw_m2 24 rfl) rfl
theorem q358 : (Jvm.Cond.superclass "SecretBuyers$Place" "java/lang/Object") ∈ lw_all := lw_g (lw_at lw_m2 25 rfl) rfl
theorem q434 : (Jvm.Cond.selects "SecretBuyers$Place" ({ cls := "java/lang/Object", name := "getClass", desc := "()Ljava/lang/Class;" } : Jvm.MethodName) ({ cls := "java/lang/Object", name := "getClass", desc := "()Ljava/lang/Class;" } : Jvm.MethodName)) ∈ lw_all := lw_g (lw_at lw_m2 101 rfl) rfl
theorem q1023 : (Jvm.Cond.selects "SecretBuyers$Place" ({ cls := "java/lang/Object", name := "equals", desc := "(Ljava/lang/Object;)Z" } : Jvm.MethodName) ({ cls := "java/lang/Object", name := "equals", desc := "(Ljava/lang/Object;)Z" } : Jvm.MethodName)) ∈ lw_all := lw_g (lw_at lw_m4 210 rfl) rfl
theorem q1347 : (Jvm.Cond.instanceMethod ({ cls := "SecretBuyers$Place", name := "way", desc := "(LSecretBuyers$Place;)I" } : Jvm.MethodName)) ∈ lw_all := lw_g (lw_at lw_m6 54 rfl) rfl
theorem q1348 : (Jvm.Cond.selects "SecretBuyers$Place" ({ cls := "SecretBuyers$Place", name := "way", desc := "(LSecretBuyers$Place;)I" } : Jvm.MethodName) ({ cls := "SecretBuyers$Place", name := "way", desc := "(LSecretBuyers$Place;)I" } : Jvm.MethodName)) ∈ lw_all := lw_g (lw_at lw_m6 55 rfl) rfl
theorem q1349 : (Jvm.Cond.code ({ cls := "SecretBuyers$Place", name := "way", desc := "(LSecretBuyers$Place;)I" } : Jvm.MethodName) prog_14_method_2_code (2 : Nat) (Option.some Jvm.ClassFile.FieldType.int)) ∈ lw_all := lw_g (lw_at lw_m6 56 rfl) rfl
theorem q1350 : (Jvm.Cond.methodLink "SecretBuyers$Place" (16 : Nat) ({ cls := "java/lang/Math", name := "abs", desc := "(I)I" } : Jvm.MethodName)) ∈ lw_all := lw_g (lw_at lw_m6 57 rfl) rfl
theorem q2173 : (Jvm.Cond.castable "SecretBuyers$Place" "java/lang/Object") ∈ lw_tbl := lw_at lw_m9 160 rfl
theorem in_X6 : ∀ w ∈ wsX60, w ∈ lw_all := lw_in wsX60 [354, 356] (by decide +kernel) (by decide +kernel)
/-! SecretBuyers$Visit -/
set_option maxRecDepth 100000
def RX7 : String := "SecretBuyers$Visit"
def TX7 : u_T := fun k => match k with
  | 0 => ("SecretBuyers$Visit", "number", "I", true)
  | 1 => ("SecretBuyers$Visit", "buyer", "I", true)
  | 2 => ("SecretBuyers$Visit", "day", "I", true)
  | 3 => ("SecretBuyers$Visit", "minute", "I", true)
  | 4 => ("SecretBuyers$Visit", "minutes", "I", true)
  | 5 => ("SecretBuyers$Visit", "form", "I", true)
  | 6 => ("SecretBuyers$Visit", "receipt", "I", true)
  | 7 => ("SecretBuyers$Visit", "told", "I", true)
  | 8 => ("SecretBuyers$Visit", "shop", "LSecretBuyers$Shop;", true)
  | 9 => ("SecretBuyers$Visit", "isSeen", "Z", false)
  | 10 => ("SecretBuyers$Visit", "known", "I", false)
  | 11 => ("SecretBuyers$Visit", "before", "I", false)
  | 12 => ("SecretBuyers$Visit", "score", "I", false)
  | 13 => ("SecretBuyers$Visit", "bonus", "I", false)
  | 14 => ("SecretBuyers$Visit", "is", "I", false)
  | _ => ("SecretBuyers$Visit", "brief", "LSecretBuyers$Brief;", false)
def tyX7 : Nat → FieldType := fun k => match k with
  | 0 => .int
  | 1 => .int
  | 2 => .int
  | 3 => .int
  | 4 => .int
  | 5 => .int
  | 6 => .int
  | 7 => .int
  | 8 => .object "SecretBuyers$Shop"
  | 9 => .boolean
  | 10 => .int
  | 11 => .int
  | 12 => .int
  | 13 => .int
  | 14 => .int
  | _ => .object "SecretBuyers$Brief"
abbrev wsX70 : List Cond := u_ws RX7 TX7 16
set_option maxRecDepth 100000 in
theorem nmX7 : ∀ a, a < 16 → ∀ b, b < 16 → a ≠ b → (TX7 a).2.1 ≠ (TX7 b).2.1 := by decide +kernel
set_option maxRecDepth 100000 in
theorem tyX7_ok : ∀ k, k < 16 → parseFieldDescriptor (TX7 k).2.2.1 = some (tyX7 k) := by decide +kernel
abbrev cX7_init : ByteArray := prog_18_method_1_code
def yX7_init : MethodName := ⟨RX7, "<init>", "(ILSecretBuyers$Shop;IIIIIII)V"⟩
def dkwX7_init_2 : List UInt8 := [181, 0, 34, 42, 21, 9, 181, 0, 37, 177]
abbrev dktX7_init_2 : List UInt8 := dkwX7_init_2 ++ []
def dkwX7_init_1 : List UInt8 := [181, 0, 22, 42, 21, 5, 181, 0, 25, 42, 21, 6, 181, 0, 28, 42, 21, 7, 181, 0, 31, 42, 21, 8]
abbrev dktX7_init_1 : List UInt8 := dkwX7_init_1 ++ dktX7_init_2
def dkwX7_init_0 : List UInt8 := [42, 183, 0, 3, 42, 27, 181, 0, 9, 42, 44, 181, 0, 15, 42, 29, 181, 0, 19, 42, 21, 4]
abbrev dktX7_init_0 : List UInt8 := dkwX7_init_0 ++ dktX7_init_1
theorem dksX7_init_0 : cX7_init.data.toList.drop 0 = dktX7_init_0 := by decide +kernel
theorem dksX7_init_1 : cX7_init.data.toList.drop 22 = dktX7_init_1 := dk_seg dksX7_init_0 22 rfl rfl
theorem dksX7_init_2 : cX7_init.data.toList.drop 46 = dktX7_init_2 := dk_seg dksX7_init_1 24 rfl rfl
theorem dX7_init_0 : decode cX7_init 0 = .ok (.aload_n 0, 1) := dk_42 (dk_at dksX7_init_0 0 rfl rfl)
theorem dX7_init_1 : decode cX7_init 1 = .ok (.invokespecial 3, 3) := dk_183 0 3 (dk_at dksX7_init_0 1 rfl rfl)
theorem dX7_init_4 : decode cX7_init 4 = .ok (.aload_n 0, 1) := dk_42 (dk_at dksX7_init_0 4 rfl rfl)
theorem dX7_init_5 : decode cX7_init 5 = .ok (.iload_n 1, 1) := dk_27 (dk_at dksX7_init_0 5 rfl rfl)
theorem dX7_init_6 : decode cX7_init 6 = .ok (.putfield 9, 3) := dk_181 0 9 (dk_at dksX7_init_0 6 rfl rfl)
theorem dX7_init_9 : decode cX7_init 9 = .ok (.aload_n 0, 1) := dk_42 (dk_at dksX7_init_0 9 rfl rfl)
theorem dX7_init_10 : decode cX7_init 10 = .ok (.aload_n 2, 1) := dk_44 (dk_at dksX7_init_0 10 rfl rfl)
theorem dX7_init_11 : decode cX7_init 11 = .ok (.putfield 15, 3) := dk_181 0 15 (dk_at dksX7_init_0 11 rfl rfl)
theorem dX7_init_14 : decode cX7_init 14 = .ok (.aload_n 0, 1) := dk_42 (dk_at dksX7_init_0 14 rfl rfl)
theorem dX7_init_15 : decode cX7_init 15 = .ok (.iload_n 3, 1) := dk_29 (dk_at dksX7_init_0 15 rfl rfl)
theorem dX7_init_16 : decode cX7_init 16 = .ok (.putfield 19, 3) := dk_181 0 19 (dk_at dksX7_init_0 16 rfl rfl)
theorem dX7_init_19 : decode cX7_init 19 = .ok (.aload_n 0, 1) := dk_42 (dk_at dksX7_init_0 19 rfl rfl)
theorem dX7_init_20 : decode cX7_init 20 = .ok (.iload 4, 2) := dk_21 4 (dk_at dksX7_init_0 20 rfl rfl)
theorem dX7_init_22 : decode cX7_init 22 = .ok (.putfield 22, 3) := dk_181 0 22 (dk_at dksX7_init_1 0 rfl rfl)
theorem dX7_init_25 : decode cX7_init 25 = .ok (.aload_n 0, 1) := dk_42 (dk_at dksX7_init_1 3 rfl rfl)
theorem dX7_init_26 : decode cX7_init 26 = .ok (.iload 5, 2) := dk_21 5 (dk_at dksX7_init_1 4 rfl rfl)
theorem dX7_init_28 : decode cX7_init 28 = .ok (.putfield 25, 3) := dk_181 0 25 (dk_at dksX7_init_1 6 rfl rfl)
theorem dX7_init_31 : decode cX7_init 31 = .ok (.aload_n 0, 1) := dk_42 (dk_at dksX7_init_1 9 rfl rfl)
theorem dX7_init_32 : decode cX7_init 32 = .ok (.iload 6, 2) := dk_21 6 (dk_at dksX7_init_1 10 rfl rfl)
theorem dX7_init_34 : decode cX7_init 34 = .ok (.putfield 28, 3) := dk_181 0 28 (dk_at dksX7_init_1 12 rfl rfl)
theorem dX7_init_37 : decode cX7_init 37 = .ok (.aload_n 0, 1) := dk_42 (dk_at dksX7_init_1 15 rfl rfl)
theorem dX7_init_38 : decode cX7_init 38 = .ok (.iload 7, 2) := dk_21 7 (dk_at dksX7_init_1 16 rfl rfl)
theorem dX7_init_40 : decode cX7_init 40 = .ok (.putfield 31, 3) := dk_181 0 31 (dk_at dksX7_init_1 18 rfl rfl)
theorem dX7_init_43 : decode cX7_init 43 = .ok (.aload_n 0, 1) := dk_42 (dk_at dksX7_init_1 21 rfl rfl)
theorem dX7_init_44 : decode cX7_init 44 = .ok (.iload 8, 2) := dk_21 8 (dk_at dksX7_init_1 22 rfl rfl)
theorem dX7_init_46 : decode cX7_init 46 = .ok (.putfield 34, 3) := dk_181 0 34 (dk_at dksX7_init_2 0 rfl rfl)
theorem dX7_init_49 : decode cX7_init 49 = .ok (.aload_n 0, 1) := dk_42 (dk_at dksX7_init_2 3 rfl rfl)
theorem dX7_init_50 : decode cX7_init 50 = .ok (.iload 9, 2) := dk_21 9 (dk_at dksX7_init_2 4 rfl rfl)
theorem dX7_init_52 : decode cX7_init 52 = .ok (.putfield 37, 3) := dk_181 0 37 (dk_at dksX7_init_2 6 rfl rfl)
theorem dX7_init_55 : decode cX7_init 55 = .ok (.return_, 1) := dk_177 (dk_at dksX7_init_2 9 rfl rfl)
abbrev cX7_canBeAlone : ByteArray := prog_18_method_4_code
def yX7_canBeAlone : MethodName := ⟨RX7, "canBeAlone", "()Z"⟩
def dkwX7_canBeAlone_3 : List UInt8 := [180, 0, 52, 154, 0, 7, 4, 167, 0, 4, 3, 172]
abbrev dktX7_canBeAlone_3 : List UInt8 := dkwX7_canBeAlone_3 ++ []
def dkwX7_canBeAlone_2 : List UInt8 := [42, 180, 0, 34, 42, 182, 0, 45, 162, 0, 24, 42, 180, 0, 52, 4, 126, 4, 159, 0, 10, 42]
abbrev dktX7_canBeAlone_2 : List UInt8 := dkwX7_canBeAlone_2 ++ dktX7_canBeAlone_3
def dkwX7_canBeAlone_1 : List UInt8 := [180, 0, 49, 163, 0, 53, 42, 180, 0, 34, 155, 0, 25, 42, 180, 0, 34, 42, 180, 0, 25, 161, 0, 35]
abbrev dktX7_canBeAlone_1 : List UInt8 := dkwX7_canBeAlone_1 ++ dktX7_canBeAlone_2
def dkwX7_canBeAlone_0 : List UInt8 := [42, 180, 0, 25, 42, 180, 0, 15, 180, 0, 40, 161, 0, 69, 42, 182, 0, 45, 4, 100, 42, 180, 0, 15]
abbrev dktX7_canBeAlone_0 : List UInt8 := dkwX7_canBeAlone_0 ++ dktX7_canBeAlone_1
theorem dksX7_canBeAlone_0 : cX7_canBeAlone.data.toList.drop 0 = dktX7_canBeAlone_0 := by decide +kernel
theorem dksX7_canBeAlone_1 : cX7_canBeAlone.data.toList.drop 24 = dktX7_canBeAlone_1 := dk_seg dksX7_canBeAlone_0 24 rfl rfl
theorem dksX7_canBeAlone_2 : cX7_canBeAlone.data.toList.drop 48 = dktX7_canBeAlone_2 := dk_seg dksX7_canBeAlone_1 24 rfl rfl
theorem dksX7_canBeAlone_3 : cX7_canBeAlone.data.toList.drop 70 = dktX7_canBeAlone_3 := dk_seg dksX7_canBeAlone_2 22 rfl rfl
theorem dX7_canBeAlone_0 : decode cX7_canBeAlone 0 = .ok (.aload_n 0, 1) := dk_42 (dk_at dksX7_canBeAlone_0 0 rfl rfl)
theorem dX7_canBeAlone_1 : decode cX7_canBeAlone 1 = .ok (.getfield 25, 3) := dk_180 0 25 (dk_at dksX7_canBeAlone_0 1 rfl rfl)
theorem dX7_canBeAlone_4 : decode cX7_canBeAlone 4 = .ok (.aload_n 0, 1) := dk_42 (dk_at dksX7_canBeAlone_0 4 rfl rfl)
theorem dX7_canBeAlone_5 : decode cX7_canBeAlone 5 = .ok (.getfield 15, 3) := dk_180 0 15 (dk_at dksX7_canBeAlone_0 5 rfl rfl)
theorem dX7_canBeAlone_8 : decode cX7_canBeAlone 8 = .ok (.getfield 40, 3) := dk_180 0 40 (dk_at dksX7_canBeAlone_0 8 rfl rfl)
theorem dX7_canBeAlone_11 : decode cX7_canBeAlone 11 = .ok (.if_icmp .lt 69, 3) := dk_161 0 69 (dk_at dksX7_canBeAlone_0 11 rfl rfl)
theorem dX7_canBeAlone_14 : decode cX7_canBeAlone 14 = .ok (.aload_n 0, 1) := dk_42 (dk_at dksX7_canBeAlone_0 14 rfl rfl)
theorem dX7_canBeAlone_15 : decode cX7_canBeAlone 15 = .ok (.invokevirtual 45, 3) := dk_182 0 45 (dk_at dksX7_canBeAlone_0 15 rfl rfl)
theorem dX7_canBeAlone_18 : decode cX7_canBeAlone 18 = .ok (.iconst 1, 1) := dk_4 (dk_at dksX7_canBeAlone_0 18 rfl rfl)
theorem dX7_canBeAlone_19 : decode cX7_canBeAlone 19 = .ok (.isub, 1) := dk_100 (dk_at dksX7_canBeAlone_0 19 rfl rfl)
theorem dX7_canBeAlone_20 : decode cX7_canBeAlone 20 = .ok (.aload_n 0, 1) := dk_42 (dk_at dksX7_canBeAlone_0 20 rfl rfl)
theorem dX7_canBeAlone_21 : decode cX7_canBeAlone 21 = .ok (.getfield 15, 3) := dk_180 0 15 (dk_at dksX7_canBeAlone_0 21 rfl rfl)
theorem dX7_canBeAlone_24 : decode cX7_canBeAlone 24 = .ok (.getfield 49, 3) := dk_180 0 49 (dk_at dksX7_canBeAlone_1 0 rfl rfl)
theorem dX7_canBeAlone_27 : decode cX7_canBeAlone 27 = .ok (.if_icmp .gt 53, 3) := dk_163 0 53 (dk_at dksX7_canBeAlone_1 3 rfl rfl)
theorem dX7_canBeAlone_30 : decode cX7_canBeAlone 30 = .ok (.aload_n 0, 1) := dk_42 (dk_at dksX7_canBeAlone_1 6 rfl rfl)
theorem dX7_canBeAlone_31 : decode cX7_canBeAlone 31 = .ok (.getfield 34, 3) := dk_180 0 34 (dk_at dksX7_canBeAlone_1 7 rfl rfl)
theorem dX7_canBeAlone_34 : decode cX7_canBeAlone 34 = .ok (.ifCond .lt 25, 3) := dk_155 0 25 (dk_at dksX7_canBeAlone_1 10 rfl rfl)
theorem dX7_canBeAlone_37 : decode cX7_canBeAlone 37 = .ok (.aload_n 0, 1) := dk_42 (dk_at dksX7_canBeAlone_1 13 rfl rfl)
theorem dX7_canBeAlone_38 : decode cX7_canBeAlone 38 = .ok (.getfield 34, 3) := dk_180 0 34 (dk_at dksX7_canBeAlone_1 14 rfl rfl)
theorem dX7_canBeAlone_41 : decode cX7_canBeAlone 41 = .ok (.aload_n 0, 1) := dk_42 (dk_at dksX7_canBeAlone_1 17 rfl rfl)
theorem dX7_canBeAlone_42 : decode cX7_canBeAlone 42 = .ok (.getfield 25, 3) := dk_180 0 25 (dk_at dksX7_canBeAlone_1 18 rfl rfl)
theorem dX7_canBeAlone_45 : decode cX7_canBeAlone 45 = .ok (.if_icmp .lt 35, 3) := dk_161 0 35 (dk_at dksX7_canBeAlone_1 21 rfl rfl)
theorem dX7_canBeAlone_48 : decode cX7_canBeAlone 48 = .ok (.aload_n 0, 1) := dk_42 (dk_at dksX7_canBeAlone_2 0 rfl rfl)
theorem dX7_canBeAlone_49 : decode cX7_canBeAlone 49 = .ok (.getfield 34, 3) := dk_180 0 34 (dk_at dksX7_canBeAlone_2 1 rfl rfl)
theorem dX7_canBeAlone_52 : decode cX7_canBeAlone 52 = .ok (.aload_n 0, 1) := dk_42 (dk_at dksX7_canBeAlone_2 4 rfl rfl)
theorem dX7_canBeAlone_53 : decode cX7_canBeAlone 53 = .ok (.invokevirtual 45, 3) := dk_182 0 45 (dk_at dksX7_canBeAlone_2 5 rfl rfl)
theorem dX7_canBeAlone_56 : decode cX7_canBeAlone 56 = .ok (.if_icmp .ge 24, 3) := dk_162 0 24 (dk_at dksX7_canBeAlone_2 8 rfl rfl)
theorem dX7_canBeAlone_59 : decode cX7_canBeAlone 59 = .ok (.aload_n 0, 1) := dk_42 (dk_at dksX7_canBeAlone_2 11 rfl rfl)
theorem dX7_canBeAlone_60 : decode cX7_canBeAlone 60 = .ok (.getfield 52, 3) := dk_180 0 52 (dk_at dksX7_canBeAlone_2 12 rfl rfl)
theorem dX7_canBeAlone_63 : decode cX7_canBeAlone 63 = .ok (.iconst 1, 1) := dk_4 (dk_at dksX7_canBeAlone_2 15 rfl rfl)
theorem dX7_canBeAlone_64 : decode cX7_canBeAlone 64 = .ok (.iand, 1) := dk_126 (dk_at dksX7_canBeAlone_2 16 rfl rfl)
theorem dX7_canBeAlone_65 : decode cX7_canBeAlone 65 = .ok (.iconst 1, 1) := dk_4 (dk_at dksX7_canBeAlone_2 17 rfl rfl)
theorem dX7_canBeAlone_66 : decode cX7_canBeAlone 66 = .ok (.if_icmp .eq 10, 3) := dk_159 0 10 (dk_at dksX7_canBeAlone_2 18 rfl rfl)
theorem dX7_canBeAlone_69 : decode cX7_canBeAlone 69 = .ok (.aload_n 0, 1) := dk_42 (dk_at dksX7_canBeAlone_2 21 rfl rfl)
theorem dX7_canBeAlone_70 : decode cX7_canBeAlone 70 = .ok (.getfield 52, 3) := dk_180 0 52 (dk_at dksX7_canBeAlone_3 0 rfl rfl)
theorem dX7_canBeAlone_73 : decode cX7_canBeAlone 73 = .ok (.ifCond .ne 7, 3) := dk_154 0 7 (dk_at dksX7_canBeAlone_3 3 rfl rfl)
theorem dX7_canBeAlone_76 : decode cX7_canBeAlone 76 = .ok (.iconst 1, 1) := dk_4 (dk_at dksX7_canBeAlone_3 6 rfl rfl)
theorem dX7_canBeAlone_77 : decode cX7_canBeAlone 77 = .ok (.goto 4, 3) := dk_167 0 4 (dk_at dksX7_canBeAlone_3 7 rfl rfl)
theorem dX7_canBeAlone_80 : decode cX7_canBeAlone 80 = .ok (.iconst 0, 1) := dk_3 (dk_at dksX7_canBeAlone_3 10 rfl rfl)
theorem dX7_canBeAlone_81 : decode cX7_canBeAlone 81 = .ok (.ireturn, 1) := dk_172 (dk_at dksX7_canBeAlone_3 11 rfl rfl)
abbrev cX7_behind : ByteArray := prog_18_method_2_code
def yX7_behind : MethodName := ⟨RX7, "behind", "()I"⟩
def dkwX7_behind_0 : List UInt8 := [42, 180, 0, 25, 42, 180, 0, 28, 96, 172]
abbrev dktX7_behind_0 : List UInt8 := dkwX7_behind_0 ++ []
theorem dksX7_behind_0 : cX7_behind.data.toList.drop 0 = dktX7_behind_0 := by decide +kernel
theorem dX7_behind_0 : decode cX7_behind 0 = .ok (.aload_n 0, 1) := dk_42 (dk_at dksX7_behind_0 0 rfl rfl)
theorem dX7_behind_1 : decode cX7_behind 1 = .ok (.getfield 25, 3) := dk_180 0 25 (dk_at dksX7_behind_0 1 rfl rfl)
theorem dX7_behind_4 : decode cX7_behind 4 = .ok (.aload_n 0, 1) := dk_42 (dk_at dksX7_behind_0 4 rfl rfl)
theorem dX7_behind_5 : decode cX7_behind 5 = .ok (.getfield 28, 3) := dk_180 0 28 (dk_at dksX7_behind_0 5 rfl rfl)
theorem dX7_behind_8 : decode cX7_behind 8 = .ok (.iadd, 1) := dk_96 (dk_at dksX7_behind_0 8 rfl rfl)
theorem dX7_behind_9 : decode cX7_behind 9 = .ok (.ireturn, 1) := dk_172 (dk_at dksX7_behind_0 9 rfl rfl)
abbrev cX7_isAheadOf : ByteArray := prog_18_method_3_code
def yX7_isAheadOf : MethodName := ⟨RX7, "isAheadOf", "(LSecretBuyers$Visit;)Z"⟩
def dkwX7_isAheadOf_3 : List UInt8 := [162, 0, 7, 4, 167, 0, 4, 3, 172]
abbrev dktX7_isAheadOf_3 : List UInt8 := dkwX7_isAheadOf_3 ++ []
def dkwX7_isAheadOf_2 : List UInt8 := [180, 0, 25, 162, 0, 7, 4, 167, 0, 23, 3, 167, 0, 19, 42, 180, 0, 9, 43, 180, 0, 9]
abbrev dktX7_isAheadOf_2 : List UInt8 := dkwX7_isAheadOf_2 ++ dktX7_isAheadOf_3
def dkwX7_isAheadOf_1 : List UInt8 := [167, 0, 53, 3, 167, 0, 49, 42, 180, 0, 25, 43, 180, 0, 25, 159, 0, 22, 42, 180, 0, 25, 43]
abbrev dktX7_isAheadOf_1 : List UInt8 := dkwX7_isAheadOf_1 ++ dktX7_isAheadOf_2
def dkwX7_isAheadOf_0 : List UInt8 := [42, 180, 0, 22, 43, 180, 0, 22, 159, 0, 22, 42, 180, 0, 22, 43, 180, 0, 22, 162, 0, 7, 4]
abbrev dktX7_isAheadOf_0 : List UInt8 := dkwX7_isAheadOf_0 ++ dktX7_isAheadOf_1
theorem dksX7_isAheadOf_0 : cX7_isAheadOf.data.toList.drop 0 = dktX7_isAheadOf_0 := by decide +kernel
theorem dksX7_isAheadOf_1 : cX7_isAheadOf.data.toList.drop 23 = dktX7_isAheadOf_1 := dk_seg dksX7_isAheadOf_0 23 rfl rfl
theorem dksX7_isAheadOf_2 : cX7_isAheadOf.data.toList.drop 46 = dktX7_isAheadOf_2 := dk_seg dksX7_isAheadOf_1 23 rfl rfl
theorem dksX7_isAheadOf_3 : cX7_isAheadOf.data.toList.drop 68 = dktX7_isAheadOf_3 := dk_seg dksX7_isAheadOf_2 22 rfl rfl
theorem dX7_isAheadOf_0 : decode cX7_isAheadOf 0 = .ok (.aload_n 0, 1) := dk_42 (dk_at dksX7_isAheadOf_0 0 rfl rfl)
theorem dX7_isAheadOf_1 : decode cX7_isAheadOf 1 = .ok (.getfield 22, 3) := dk_180 0 22 (dk_at dksX7_isAheadOf_0 1 rfl rfl)
theorem dX7_isAheadOf_4 : decode cX7_isAheadOf 4 = .ok (.aload_n 1, 1) := dk_43 (dk_at dksX7_isAheadOf_0 4 rfl rfl)
theorem dX7_isAheadOf_5 : decode cX7_isAheadOf 5 = .ok (.getfield 22, 3) := dk_180 0 22 (dk_at dksX7_isAheadOf_0 5 rfl rfl)
theorem dX7_isAheadOf_8 : decode cX7_isAheadOf 8 = .ok (.if_icmp .eq 22, 3) := dk_159 0 22 (dk_at dksX7_isAheadOf_0 8 rfl rfl)
theorem dX7_isAheadOf_11 : decode cX7_isAheadOf 11 = .ok (.aload_n 0, 1) := dk_42 (dk_at dksX7_isAheadOf_0 11 rfl rfl)
theorem dX7_isAheadOf_12 : decode cX7_isAheadOf 12 = .ok (.getfield 22, 3) := dk_180 0 22 (dk_at dksX7_isAheadOf_0 12 rfl rfl)
theorem dX7_isAheadOf_15 : decode cX7_isAheadOf 15 = .ok (.aload_n 1, 1) := dk_43 (dk_at dksX7_isAheadOf_0 15 rfl rfl)
theorem dX7_isAheadOf_16 : decode cX7_isAheadOf 16 = .ok (.getfield 22, 3) := dk_180 0 22 (dk_at dksX7_isAheadOf_0 16 rfl rfl)
theorem dX7_isAheadOf_19 : decode cX7_isAheadOf 19 = .ok (.if_icmp .ge 7, 3) := dk_162 0 7 (dk_at dksX7_isAheadOf_0 19 rfl rfl)
theorem dX7_isAheadOf_22 : decode cX7_isAheadOf 22 = .ok (.iconst 1, 1) := dk_4 (dk_at dksX7_isAheadOf_0 22 rfl rfl)
theorem dX7_isAheadOf_23 : decode cX7_isAheadOf 23 = .ok (.goto 53, 3) := dk_167 0 53 (dk_at dksX7_isAheadOf_1 0 rfl rfl)
theorem dX7_isAheadOf_26 : decode cX7_isAheadOf 26 = .ok (.iconst 0, 1) := dk_3 (dk_at dksX7_isAheadOf_1 3 rfl rfl)
theorem dX7_isAheadOf_27 : decode cX7_isAheadOf 27 = .ok (.goto 49, 3) := dk_167 0 49 (dk_at dksX7_isAheadOf_1 4 rfl rfl)
theorem dX7_isAheadOf_30 : decode cX7_isAheadOf 30 = .ok (.aload_n 0, 1) := dk_42 (dk_at dksX7_isAheadOf_1 7 rfl rfl)
theorem dX7_isAheadOf_31 : decode cX7_isAheadOf 31 = .ok (.getfield 25, 3) := dk_180 0 25 (dk_at dksX7_isAheadOf_1 8 rfl rfl)
theorem dX7_isAheadOf_34 : decode cX7_isAheadOf 34 = .ok (.aload_n 1, 1) := dk_43 (dk_at dksX7_isAheadOf_1 11 rfl rfl)
theorem dX7_isAheadOf_35 : decode cX7_isAheadOf 35 = .ok (.getfield 25, 3) := dk_180 0 25 (dk_at dksX7_isAheadOf_1 12 rfl rfl)
theorem dX7_isAheadOf_38 : decode cX7_isAheadOf 38 = .ok (.if_icmp .eq 22, 3) := dk_159 0 22 (dk_at dksX7_isAheadOf_1 15 rfl rfl)
theorem dX7_isAheadOf_41 : decode cX7_isAheadOf 41 = .ok (.aload_n 0, 1) := dk_42 (dk_at dksX7_isAheadOf_1 18 rfl rfl)
theorem dX7_isAheadOf_42 : decode cX7_isAheadOf 42 = .ok (.getfield 25, 3) := dk_180 0 25 (dk_at dksX7_isAheadOf_1 19 rfl rfl)
theorem dX7_isAheadOf_45 : decode cX7_isAheadOf 45 = .ok (.aload_n 1, 1) := dk_43 (dk_at dksX7_isAheadOf_1 22 rfl rfl)
theorem dX7_isAheadOf_46 : decode cX7_isAheadOf 46 = .ok (.getfield 25, 3) := dk_180 0 25 (dk_at dksX7_isAheadOf_2 0 rfl rfl)
theorem dX7_isAheadOf_49 : decode cX7_isAheadOf 49 = .ok (.if_icmp .ge 7, 3) := dk_162 0 7 (dk_at dksX7_isAheadOf_2 3 rfl rfl)
theorem dX7_isAheadOf_52 : decode cX7_isAheadOf 52 = .ok (.iconst 1, 1) := dk_4 (dk_at dksX7_isAheadOf_2 6 rfl rfl)
theorem dX7_isAheadOf_53 : decode cX7_isAheadOf 53 = .ok (.goto 23, 3) := dk_167 0 23 (dk_at dksX7_isAheadOf_2 7 rfl rfl)
theorem dX7_isAheadOf_56 : decode cX7_isAheadOf 56 = .ok (.iconst 0, 1) := dk_3 (dk_at dksX7_isAheadOf_2 10 rfl rfl)
theorem dX7_isAheadOf_57 : decode cX7_isAheadOf 57 = .ok (.goto 19, 3) := dk_167 0 19 (dk_at dksX7_isAheadOf_2 11 rfl rfl)
theorem dX7_isAheadOf_60 : decode cX7_isAheadOf 60 = .ok (.aload_n 0, 1) := dk_42 (dk_at dksX7_isAheadOf_2 14 rfl rfl)
theorem dX7_isAheadOf_61 : decode cX7_isAheadOf 61 = .ok (.getfield 9, 3) := dk_180 0 9 (dk_at dksX7_isAheadOf_2 15 rfl rfl)
theorem dX7_isAheadOf_64 : decode cX7_isAheadOf 64 = .ok (.aload_n 1, 1) := dk_43 (dk_at dksX7_isAheadOf_2 18 rfl rfl)
theorem dX7_isAheadOf_65 : decode cX7_isAheadOf 65 = .ok (.getfield 9, 3) := dk_180 0 9 (dk_at dksX7_isAheadOf_2 19 rfl rfl)
theorem dX7_isAheadOf_68 : decode cX7_isAheadOf 68 = .ok (.if_icmp .ge 7, 3) := dk_162 0 7 (dk_at dksX7_isAheadOf_3 0 rfl rfl)
theorem dX7_isAheadOf_71 : decode cX7_isAheadOf 71 = .ok (.iconst 1, 1) := dk_4 (dk_at dksX7_isAheadOf_3 3 rfl rfl)
theorem dX7_isAheadOf_72 : decode cX7_isAheadOf 72 = .ok (.goto 4, 3) := dk_167 0 4 (dk_at dksX7_isAheadOf_3 4 rfl rfl)
theorem dX7_isAheadOf_75 : decode cX7_isAheadOf 75 = .ok (.iconst 0, 1) := dk_3 (dk_at dksX7_isAheadOf_3 7 rfl rfl)
theorem dX7_isAheadOf_76 : decode cX7_isAheadOf 76 = .ok (.ireturn, 1) := dk_172 (dk_at dksX7_isAheadOf_3 8 rfl rfl)
abbrev cX7_quarrels : ByteArray := prog_18_method_5_code
def yX7_quarrels : MethodName := ⟨RX7, "quarrels", "(LSecretBuyers$Visit;I)Z"⟩
def dkwX7_quarrels_2 : List UInt8 := [180, 0, 59, 182, 0, 63, 104, 96, 162, 0, 7, 4, 167, 0, 4, 3, 172]
abbrev dktX7_quarrels_2 : List UInt8 := dkwX7_quarrels_2 ++ []
def dkwX7_quarrels_1 : List UInt8 := [58, 4, 25, 4, 180, 0, 25, 45, 182, 0, 45, 28, 45, 180, 0, 15, 180, 0, 59, 25, 4, 180, 0, 15]
abbrev dktX7_quarrels_1 : List UInt8 := dkwX7_quarrels_1 ++ dktX7_quarrels_2
def dkwX7_quarrels_0 : List UInt8 := [42, 43, 182, 0, 55, 153, 0, 7, 42, 167, 0, 4, 43, 78, 45, 42, 166, 0, 7, 43, 167, 0, 4, 42]
abbrev dktX7_quarrels_0 : List UInt8 := dkwX7_quarrels_0 ++ dktX7_quarrels_1
theorem dksX7_quarrels_0 : cX7_quarrels.data.toList.drop 0 = dktX7_quarrels_0 := by decide +kernel
theorem dksX7_quarrels_1 : cX7_quarrels.data.toList.drop 24 = dktX7_quarrels_1 := dk_seg dksX7_quarrels_0 24 rfl rfl
theorem dksX7_quarrels_2 : cX7_quarrels.data.toList.drop 48 = dktX7_quarrels_2 := dk_seg dksX7_quarrels_1 24 rfl rfl
theorem dX7_quarrels_0 : decode cX7_quarrels 0 = .ok (.aload_n 0, 1) := dk_42 (dk_at dksX7_quarrels_0 0 rfl rfl)
theorem dX7_quarrels_1 : decode cX7_quarrels 1 = .ok (.aload_n 1, 1) := dk_43 (dk_at dksX7_quarrels_0 1 rfl rfl)
theorem dX7_quarrels_2 : decode cX7_quarrels 2 = .ok (.invokevirtual 55, 3) := dk_182 0 55 (dk_at dksX7_quarrels_0 2 rfl rfl)
theorem dX7_quarrels_5 : decode cX7_quarrels 5 = .ok (.ifCond .eq 7, 3) := dk_153 0 7 (dk_at dksX7_quarrels_0 5 rfl rfl)
theorem dX7_quarrels_8 : decode cX7_quarrels 8 = .ok (.aload_n 0, 1) := dk_42 (dk_at dksX7_quarrels_0 8 rfl rfl)
theorem dX7_quarrels_9 : decode cX7_quarrels 9 = .ok (.goto 4, 3) := dk_167 0 4 (dk_at dksX7_quarrels_0 9 rfl rfl)
theorem dX7_quarrels_12 : decode cX7_quarrels 12 = .ok (.aload_n 1, 1) := dk_43 (dk_at dksX7_quarrels_0 12 rfl rfl)
theorem dX7_quarrels_13 : decode cX7_quarrels 13 = .ok (.astore_n 3, 1) := dk_78 (dk_at dksX7_quarrels_0 13 rfl rfl)
theorem dX7_quarrels_14 : decode cX7_quarrels 14 = .ok (.aload_n 3, 1) := dk_45 (dk_at dksX7_quarrels_0 14 rfl rfl)
theorem dX7_quarrels_15 : decode cX7_quarrels 15 = .ok (.aload_n 0, 1) := dk_42 (dk_at dksX7_quarrels_0 15 rfl rfl)
theorem dX7_quarrels_16 : decode cX7_quarrels 16 = .ok (.if_acmp .ne 7, 3) := dk_166 0 7 (dk_at dksX7_quarrels_0 16 rfl rfl)
theorem dX7_quarrels_19 : decode cX7_quarrels 19 = .ok (.aload_n 1, 1) := dk_43 (dk_at dksX7_quarrels_0 19 rfl rfl)
theorem dX7_quarrels_20 : decode cX7_quarrels 20 = .ok (.goto 4, 3) := dk_167 0 4 (dk_at dksX7_quarrels_0 20 rfl rfl)
theorem dX7_quarrels_23 : decode cX7_quarrels 23 = .ok (.aload_n 0, 1) := dk_42 (dk_at dksX7_quarrels_0 23 rfl rfl)
theorem dX7_quarrels_24 : decode cX7_quarrels 24 = .ok (.astore 4, 2) := dk_58 4 (dk_at dksX7_quarrels_1 0 rfl rfl)
theorem dX7_quarrels_26 : decode cX7_quarrels 26 = .ok (.aload 4, 2) := dk_25 4 (dk_at dksX7_quarrels_1 2 rfl rfl)
theorem dX7_quarrels_28 : decode cX7_quarrels 28 = .ok (.getfield 25, 3) := dk_180 0 25 (dk_at dksX7_quarrels_1 4 rfl rfl)
theorem dX7_quarrels_31 : decode cX7_quarrels 31 = .ok (.aload_n 3, 1) := dk_45 (dk_at dksX7_quarrels_1 7 rfl rfl)
theorem dX7_quarrels_32 : decode cX7_quarrels 32 = .ok (.invokevirtual 45, 3) := dk_182 0 45 (dk_at dksX7_quarrels_1 8 rfl rfl)
theorem dX7_quarrels_35 : decode cX7_quarrels 35 = .ok (.iload_n 2, 1) := dk_28 (dk_at dksX7_quarrels_1 11 rfl rfl)
theorem dX7_quarrels_36 : decode cX7_quarrels 36 = .ok (.aload_n 3, 1) := dk_45 (dk_at dksX7_quarrels_1 12 rfl rfl)
theorem dX7_quarrels_37 : decode cX7_quarrels 37 = .ok (.getfield 15, 3) := dk_180 0 15 (dk_at dksX7_quarrels_1 13 rfl rfl)
theorem dX7_quarrels_40 : decode cX7_quarrels 40 = .ok (.getfield 59, 3) := dk_180 0 59 (dk_at dksX7_quarrels_1 16 rfl rfl)
theorem dX7_quarrels_43 : decode cX7_quarrels 43 = .ok (.aload 4, 2) := dk_25 4 (dk_at dksX7_quarrels_1 19 rfl rfl)
theorem dX7_quarrels_45 : decode cX7_quarrels 45 = .ok (.getfield 15, 3) := dk_180 0 15 (dk_at dksX7_quarrels_1 21 rfl rfl)
theorem dX7_quarrels_48 : decode cX7_quarrels 48 = .ok (.getfield 59, 3) := dk_180 0 59 (dk_at dksX7_quarrels_2 0 rfl rfl)
theorem dX7_quarrels_51 : decode cX7_quarrels 51 = .ok (.invokevirtual 63, 3) := dk_182 0 63 (dk_at dksX7_quarrels_2 3 rfl rfl)
theorem dX7_quarrels_54 : decode cX7_quarrels 54 = .ok (.imul, 1) := dk_104 (dk_at dksX7_quarrels_2 6 rfl rfl)
theorem dX7_quarrels_55 : decode cX7_quarrels 55 = .ok (.iadd, 1) := dk_96 (dk_at dksX7_quarrels_2 7 rfl rfl)
theorem dX7_quarrels_56 : decode cX7_quarrels 56 = .ok (.if_icmp .ge 7, 3) := dk_162 0 7 (dk_at dksX7_quarrels_2 8 rfl rfl)
theorem dX7_quarrels_59 : decode cX7_quarrels 59 = .ok (.iconst 1, 1) := dk_4 (dk_at dksX7_quarrels_2 11 rfl rfl)
theorem dX7_quarrels_60 : decode cX7_quarrels 60 = .ok (.goto 4, 3) := dk_167 0 4 (dk_at dksX7_quarrels_2 12 rfl rfl)
theorem dX7_quarrels_63 : decode cX7_quarrels 63 = .ok (.iconst 0, 1) := dk_3 (dk_at dksX7_quarrels_2 15 rfl rfl)
theorem dX7_quarrels_64 : decode cX7_quarrels 64 = .ok (.ireturn, 1) := dk_172 (dk_at dksX7_quarrels_2 16 rfl rfl)
abbrev cX7_meets : ByteArray := prog_18_method_7_code
def yX7_meets : MethodName := ⟨RX7, "meets", "(LSecretBuyers$Visit;)Z"⟩
def dkwX7_meets_2 : List UInt8 := [182, 0, 76, 153, 0, 7, 4, 167, 0, 4, 3, 172]
abbrev dktX7_meets_2 : List UInt8 := dkwX7_meets_2 ++ []
def dkwX7_meets_1 : List UInt8 := [108, 160, 0, 32, 42, 180, 0, 19, 43, 180, 0, 19, 159, 0, 21, 42, 182, 0, 76, 153, 0, 14, 43]
abbrev dktX7_meets_1 : List UInt8 := dkwX7_meets_1 ++ dktX7_meets_2
def dkwX7_meets_0 : List UInt8 := [42, 180, 0, 15, 43, 180, 0, 15, 166, 0, 49, 42, 180, 0, 22, 16, 7, 108, 43, 180, 0, 22, 16, 7]
abbrev dktX7_meets_0 : List UInt8 := dkwX7_meets_0 ++ dktX7_meets_1
theorem dksX7_meets_0 : cX7_meets.data.toList.drop 0 = dktX7_meets_0 := by decide +kernel
theorem dksX7_meets_1 : cX7_meets.data.toList.drop 24 = dktX7_meets_1 := dk_seg dksX7_meets_0 24 rfl rfl
theorem dksX7_meets_2 : cX7_meets.data.toList.drop 47 = dktX7_meets_2 := dk_seg dksX7_meets_1 23 rfl rfl
theorem dX7_meets_0 : decode cX7_meets 0 = .ok (.aload_n 0, 1) := dk_42 (dk_at dksX7_meets_0 0 rfl rfl)
theorem dX7_meets_1 : decode cX7_meets 1 = .ok (.getfield 15, 3) := dk_180 0 15 (dk_at dksX7_meets_0 1 rfl rfl)
theorem dX7_meets_4 : decode cX7_meets 4 = .ok (.aload_n 1, 1) := dk_43 (dk_at dksX7_meets_0 4 rfl rfl)
theorem dX7_meets_5 : decode cX7_meets 5 = .ok (.getfield 15, 3) := dk_180 0 15 (dk_at dksX7_meets_0 5 rfl rfl)
theorem dX7_meets_8 : decode cX7_meets 8 = .ok (.if_acmp .ne 49, 3) := dk_166 0 49 (dk_at dksX7_meets_0 8 rfl rfl)
theorem dX7_meets_11 : decode cX7_meets 11 = .ok (.aload_n 0, 1) := dk_42 (dk_at dksX7_meets_0 11 rfl rfl)
theorem dX7_meets_12 : decode cX7_meets 12 = .ok (.getfield 22, 3) := dk_180 0 22 (dk_at dksX7_meets_0 12 rfl rfl)
theorem dX7_meets_15 : decode cX7_meets 15 = .ok (.bipush 7, 2) := dk_16 7 (dk_at dksX7_meets_0 15 rfl rfl)
theorem dX7_meets_17 : decode cX7_meets 17 = .ok (.idiv, 1) := dk_108 (dk_at dksX7_meets_0 17 rfl rfl)
theorem dX7_meets_18 : decode cX7_meets 18 = .ok (.aload_n 1, 1) := dk_43 (dk_at dksX7_meets_0 18 rfl rfl)
theorem dX7_meets_19 : decode cX7_meets 19 = .ok (.getfield 22, 3) := dk_180 0 22 (dk_at dksX7_meets_0 19 rfl rfl)
theorem dX7_meets_22 : decode cX7_meets 22 = .ok (.bipush 7, 2) := dk_16 7 (dk_at dksX7_meets_0 22 rfl rfl)
theorem dX7_meets_24 : decode cX7_meets 24 = .ok (.idiv, 1) := dk_108 (dk_at dksX7_meets_1 0 rfl rfl)
theorem dX7_meets_25 : decode cX7_meets 25 = .ok (.if_icmp .ne 32, 3) := dk_160 0 32 (dk_at dksX7_meets_1 1 rfl rfl)
theorem dX7_meets_28 : decode cX7_meets 28 = .ok (.aload_n 0, 1) := dk_42 (dk_at dksX7_meets_1 4 rfl rfl)
theorem dX7_meets_29 : decode cX7_meets 29 = .ok (.getfield 19, 3) := dk_180 0 19 (dk_at dksX7_meets_1 5 rfl rfl)
theorem dX7_meets_32 : decode cX7_meets 32 = .ok (.aload_n 1, 1) := dk_43 (dk_at dksX7_meets_1 8 rfl rfl)
theorem dX7_meets_33 : decode cX7_meets 33 = .ok (.getfield 19, 3) := dk_180 0 19 (dk_at dksX7_meets_1 9 rfl rfl)
theorem dX7_meets_36 : decode cX7_meets 36 = .ok (.if_icmp .eq 21, 3) := dk_159 0 21 (dk_at dksX7_meets_1 12 rfl rfl)
theorem dX7_meets_39 : decode cX7_meets 39 = .ok (.aload_n 0, 1) := dk_42 (dk_at dksX7_meets_1 15 rfl rfl)
theorem dX7_meets_40 : decode cX7_meets 40 = .ok (.invokevirtual 76, 3) := dk_182 0 76 (dk_at dksX7_meets_1 16 rfl rfl)
theorem dX7_meets_43 : decode cX7_meets 43 = .ok (.ifCond .eq 14, 3) := dk_153 0 14 (dk_at dksX7_meets_1 19 rfl rfl)
theorem dX7_meets_46 : decode cX7_meets 46 = .ok (.aload_n 1, 1) := dk_43 (dk_at dksX7_meets_1 22 rfl rfl)
theorem dX7_meets_47 : decode cX7_meets 47 = .ok (.invokevirtual 76, 3) := dk_182 0 76 (dk_at dksX7_meets_2 0 rfl rfl)
theorem dX7_meets_50 : decode cX7_meets 50 = .ok (.ifCond .eq 7, 3) := dk_153 0 7 (dk_at dksX7_meets_2 3 rfl rfl)
theorem dX7_meets_53 : decode cX7_meets 53 = .ok (.iconst 1, 1) := dk_4 (dk_at dksX7_meets_2 6 rfl rfl)
theorem dX7_meets_54 : decode cX7_meets 54 = .ok (.goto 4, 3) := dk_167 0 4 (dk_at dksX7_meets_2 7 rfl rfl)
theorem dX7_meets_57 : decode cX7_meets 57 = .ok (.iconst 0, 1) := dk_3 (dk_at dksX7_meets_2 10 rfl rfl)
theorem dX7_meets_58 : decode cX7_meets 58 = .ok (.ireturn, 1) := dk_172 (dk_at dksX7_meets_2 11 rfl rfl)
abbrev cX7_counts : ByteArray := prog_18_method_6_code
def yX7_counts : MethodName := ⟨RX7, "counts", "()Z"⟩
def dkwX7_counts_1 : List UInt8 := [167, 0, 4, 3, 172]
abbrev dktX7_counts_1 : List UInt8 := dkwX7_counts_1 ++ []
def dkwX7_counts_0 : List UInt8 := [42, 180, 0, 69, 153, 0, 22, 42, 180, 0, 73, 153, 0, 11, 42, 180, 0, 73, 6, 160, 0, 7, 4]
abbrev dktX7_counts_0 : List UInt8 := dkwX7_counts_0 ++ dktX7_counts_1
theorem dksX7_counts_0 : cX7_counts.data.toList.drop 0 = dktX7_counts_0 := by decide +kernel
theorem dksX7_counts_1 : cX7_counts.data.toList.drop 23 = dktX7_counts_1 := dk_seg dksX7_counts_0 23 rfl rfl
theorem dX7_counts_0 : decode cX7_counts 0 = .ok (.aload_n 0, 1) := dk_42 (dk_at dksX7_counts_0 0 rfl rfl)
theorem dX7_counts_1 : decode cX7_counts 1 = .ok (.getfield 69, 3) := dk_180 0 69 (dk_at dksX7_counts_0 1 rfl rfl)
theorem dX7_counts_4 : decode cX7_counts 4 = .ok (.ifCond .eq 22, 3) := dk_153 0 22 (dk_at dksX7_counts_0 4 rfl rfl)
theorem dX7_counts_7 : decode cX7_counts 7 = .ok (.aload_n 0, 1) := dk_42 (dk_at dksX7_counts_0 7 rfl rfl)
theorem dX7_counts_8 : decode cX7_counts 8 = .ok (.getfield 73, 3) := dk_180 0 73 (dk_at dksX7_counts_0 8 rfl rfl)
theorem dX7_counts_11 : decode cX7_counts 11 = .ok (.ifCond .eq 11, 3) := dk_153 0 11 (dk_at dksX7_counts_0 11 rfl rfl)
theorem dX7_counts_14 : decode cX7_counts 14 = .ok (.aload_n 0, 1) := dk_42 (dk_at dksX7_counts_0 14 rfl rfl)
theorem dX7_counts_15 : decode cX7_counts 15 = .ok (.getfield 73, 3) := dk_180 0 73 (dk_at dksX7_counts_0 15 rfl rfl)
theorem dX7_counts_18 : decode cX7_counts 18 = .ok (.iconst 3, 1) := dk_6 (dk_at dksX7_counts_0 18 rfl rfl)
theorem dX7_counts_19 : decode cX7_counts 19 = .ok (.if_icmp .ne 7, 3) := dk_160 0 7 (dk_at dksX7_counts_0 19 rfl rfl)
theorem dX7_counts_22 : decode cX7_counts 22 = .ok (.iconst 1, 1) := dk_4 (dk_at dksX7_counts_0 22 rfl rfl)
theorem dX7_counts_23 : decode cX7_counts 23 = .ok (.goto 4, 3) := dk_167 0 4 (dk_at dksX7_counts_1 0 rfl rfl)
theorem dX7_counts_26 : decode cX7_counts 26 = .ok (.iconst 0, 1) := dk_3 (dk_at dksX7_counts_1 3 rfl rfl)
theorem dX7_counts_27 : decode cX7_counts 27 = .ok (.ireturn, 1) := dk_172 (dk_at dksX7_counts_1 4 rfl rfl)
theorem q109 : (Jvm.Cond.initialized "SecretBuyers$Visit") ∈ lw_all := lw_g (lw_at lw_m1 16 rfl) rfl
theorem q368 : (Jvm.Cond.fieldLinkNest "SecretBuyers$Visit" (40 : Nat) "SecretBuyers$Shop" "from" "I" "SecretBuyers") ∈ lw_tbl := lw_at lw_m2 35 rfl
theorem q370 : (Jvm.Cond.fieldLinkNest "SecretBuyers$Visit" (49 : Nat) "SecretBuyers$Shop" "to" "I" "SecretBuyers") ∈ lw_tbl := lw_at lw_m2 37 rfl
theorem q372 : (Jvm.Cond.fieldLinkNest "SecretBuyers$Visit" (59 : Nat) "SecretBuyers$Shop" "place" "LSecretBuyers$Place;" "SecretBuyers") ∈ lw_tbl := lw_at lw_m2 39 rfl
theorem q438 : (Jvm.Cond.selects "SecretBuyers$Visit" ({ cls := "java/lang/Object", name := "getClass", desc := "()Ljava/lang/Class;" } : Jvm.MethodName) ({ cls := "java/lang/Object", name := "getClass", desc := "()Ljava/lang/Class;" } : Jvm.MethodName)) ∈ lw_all := lw_g (lw_at lw_m2 105 rfl) rfl
theorem q496 : (Jvm.Cond.instantiable "SecretBuyers$Visit" (16 : Nat)) ∈ lw_all := lw_g (lw_at lw_m2 163 rfl) rfl
theorem q498 : (Jvm.Cond.instanceMethod ({ cls := "SecretBuyers$Visit", name := "<init>", desc := "(ILSecretBuyers$Shop;IIIIIII)V" } : Jvm.MethodName)) ∈ lw_all := lw_g (lw_at lw_m2 165 rfl) rfl
theorem q499 : (Jvm.Cond.code ({ cls := "SecretBuyers$Visit", name := "<init>", desc := "(ILSecretBuyers$Shop;IIIIIII)V" } : Jvm.MethodName) prog_18_method_1_code (10 : Nat) (Option.none : Option Jvm.ClassFile.FieldType)) ∈ lw_all := lw_g (lw_at lw_m2 166 rfl) rfl
theorem q500 : (Jvm.Cond.methodLink "SecretBuyers$Visit" (3 : Nat) ({ cls := "java/lang/Object", name := "<init>", desc := "()V" } : Jvm.MethodName)) ∈ lw_all := lw_g (lw_at lw_m2 167 rfl) rfl
theorem q501 : (Jvm.Cond.fieldLink "SecretBuyers$Visit" (9 : Nat) "SecretBuyers$Visit" "number" "I") ∈ lw_all := lw_g (lw_at lw_m2 168 rfl) rfl
theorem q503 : (Jvm.Cond.fieldLink "SecretBuyers$Visit" (19 : Nat) "SecretBuyers$Visit" "buyer" "I") ∈ lw_all := lw_g (lw_at lw_m2 170 rfl) rfl
theorem q505 : (Jvm.Cond.fieldLink "SecretBuyers$Visit" (22 : Nat) "SecretBuyers$Visit" "day" "I") ∈ lw_all := lw_g (lw_at lw_m2 172 rfl) rfl
theorem q508 : (Jvm.Cond.fieldLink "SecretBuyers$Visit" (25 : Nat) "SecretBuyers$Visit" "minute" "I") ∈ lw_all := lw_g (lw_at lw_m2 175 rfl) rfl
theorem q510 : (Jvm.Cond.fieldLink "SecretBuyers$Visit" (28 : Nat) "SecretBuyers$Visit" "minutes" "I") ∈ lw_all := lw_g (lw_at lw_m2 177 rfl) rfl
theorem q512 : (Jvm.Cond.fieldLink "SecretBuyers$Visit" (31 : Nat) "SecretBuyers$Visit" "form" "I") ∈ lw_all := lw_g (lw_at lw_m2 179 rfl) rfl
theorem q514 : (Jvm.Cond.fieldLink "SecretBuyers$Visit" (34 : Nat) "SecretBuyers$Visit" "receipt" "I") ∈ lw_all := lw_g (lw_at lw_m2 181 rfl) rfl
theorem q516 : (Jvm.Cond.fieldLink "SecretBuyers$Visit" (37 : Nat) "SecretBuyers$Visit" "told" "I") ∈ lw_all := lw_g (lw_at lw_m2 183 rfl) rfl
theorem q518 : (Jvm.Cond.fieldLink "SecretBuyers$Visit" (15 : Nat) "SecretBuyers$Visit" "shop" "LSecretBuyers$Shop;") ∈ lw_all := lw_g (lw_at lw_m2 185 rfl) rfl
theorem q520 : (Jvm.Cond.fieldLink "SecretBuyers$Visit" (69 : Nat) "SecretBuyers$Visit" "isSeen" "Z") ∈ lw_all := lw_g (lw_at lw_m2 187 rfl) rfl
theorem q522 : (Jvm.Cond.fieldLink "SecretBuyers$Visit" (52 : Nat) "SecretBuyers$Visit" "known" "I") ∈ lw_all := lw_g (lw_at lw_m2 189 rfl) rfl
theorem q528 : (Jvm.Cond.fieldLink "SecretBuyers$Visit" (73 : Nat) "SecretBuyers$Visit" "is" "I") ∈ lw_all := lw_g (lw_at lw_m2 195 rfl) rfl
theorem q531 : (Jvm.Cond.laysFinal "SecretBuyers$Visit" "SecretBuyers$Visit" "number" "I") ∈ lw_all := lw_g (lw_at lw_m2 198 rfl) rfl
theorem q532 : (Jvm.Cond.soleField "SecretBuyers$Visit" "number") ∈ lw_all := lw_g (lw_at lw_m2 199 rfl) rfl
theorem q533 : (Jvm.Cond.laysFinal "SecretBuyers$Visit" "SecretBuyers$Visit" "buyer" "I") ∈ lw_all := lw_g (lw_at lw_m2 200 rfl) rfl
theorem q534 : (Jvm.Cond.soleField "SecretBuyers$Visit" "buyer") ∈ lw_all := lw_g (lw_at lw_m2 201 rfl) rfl
theorem q535 : (Jvm.Cond.laysFinal "SecretBuyers$Visit" "SecretBuyers$Visit" "day" "I") ∈ lw_all := lw_g (lw_at lw_m2 202 rfl) rfl
theorem q536 : (Jvm.Cond.soleField "SecretBuyers$Visit" "day") ∈ lw_all := lw_g (lw_at lw_m2 203 rfl) rfl
theorem q537 : (Jvm.Cond.laysFinal "SecretBuyers$Visit" "SecretBuyers$Visit" "minute" "I") ∈ lw_all := lw_g (lw_at lw_m2 204 rfl) rfl
theorem q538 : (Jvm.Cond.soleField "SecretBuyers$Visit" "minute") ∈ lw_all := lw_g (lw_at lw_m2 205 rfl) rfl
theorem q539 : (Jvm.Cond.laysFinal "SecretBuyers$Visit" "SecretBuyers$Visit" "minutes" "I") ∈ lw_all := lw_g (lw_at lw_m2 206 rfl) rfl
theorem q540 : (Jvm.Cond.soleField "SecretBuyers$Visit" "minutes") ∈ lw_all := lw_g (lw_at lw_m2 207 rfl) rfl
theorem q541 : (Jvm.Cond.laysFinal "SecretBuyers$Visit" "SecretBuyers$Visit" "form" "I") ∈ lw_all := lw_g (lw_at lw_m2 208 rfl) rfl
theorem q542 : (Jvm.Cond.soleField "SecretBuyers$Visit" "form") ∈ lw_all := lw_g (lw_at lw_m2 209 rfl) rfl
theorem q543 : (Jvm.Cond.laysFinal "SecretBuyers$Visit" "SecretBuyers$Visit" "receipt" "I") ∈ lw_all := lw_g (lw_at lw_m2 210 rfl) rfl
theorem q544 : (Jvm.Cond.soleField "SecretBuyers$Visit" "receipt") ∈ lw_all := lw_g (lw_at lw_m2 211 rfl) rfl
theorem q545 : (Jvm.Cond.laysFinal "SecretBuyers$Visit" "SecretBuyers$Visit" "told" "I") ∈ lw_all := lw_g (lw_at lw_m2 212 rfl) rfl
theorem q546 : (Jvm.Cond.soleField "SecretBuyers$Visit" "told") ∈ lw_all := lw_g (lw_at lw_m2 213 rfl) rfl
theorem q547 : (Jvm.Cond.laysFinal "SecretBuyers$Visit" "SecretBuyers$Visit" "shop" "LSecretBuyers$Shop;") ∈ lw_all := lw_g (lw_at lw_m2 214 rfl) rfl
theorem q548 : (Jvm.Cond.soleField "SecretBuyers$Visit" "shop") ∈ lw_all := lw_g (lw_at lw_m2 215 rfl) rfl
theorem q549 : (Jvm.Cond.lays "SecretBuyers$Visit" "SecretBuyers$Visit" "isSeen" "Z") ∈ lw_all := lw_g (lw_at lw_m2 216 rfl) rfl
theorem q550 : (Jvm.Cond.soleField "SecretBuyers$Visit" "isSeen") ∈ lw_all := lw_g (lw_at lw_m2 217 rfl) rfl
theorem q551 : (Jvm.Cond.lays "SecretBuyers$Visit" "SecretBuyers$Visit" "known" "I") ∈ lw_all := lw_g (lw_at lw_m2 218 rfl) rfl
theorem q552 : (Jvm.Cond.soleField "SecretBuyers$Visit" "known") ∈ lw_all := lw_g (lw_at lw_m2 219 rfl) rfl
theorem q553 : (Jvm.Cond.lays "SecretBuyers$Visit" "SecretBuyers$Visit" "before" "I") ∈ lw_all := lw_g (lw_at lw_m2 220 rfl) rfl
theorem q554 : (Jvm.Cond.soleField "SecretBuyers$Visit" "before") ∈ lw_all := lw_g (lw_at lw_m2 221 rfl) rfl
theorem q555 : (Jvm.Cond.lays "SecretBuyers$Visit" "SecretBuyers$Visit" "score" "I") ∈ lw_all := lw_g (lw_at lw_m2 222 rfl) rfl
theorem q556 : (Jvm.Cond.soleField "SecretBuyers$Visit" "score") ∈ lw_all := lw_g (lw_at lw_m2 223 rfl) rfl
theorem q557 : (Jvm.Cond.lays "SecretBuyers$Visit" "SecretBuyers$Visit" "bonus" "I") ∈ lw_all := lw_g (lw_at lw_m2 224 rfl) rfl
theorem q558 : (Jvm.Cond.soleField "SecretBuyers$Visit" "bonus") ∈ lw_all := lw_g (lw_at lw_m2 225 rfl) rfl
theorem q559 : (Jvm.Cond.lays "SecretBuyers$Visit" "SecretBuyers$Visit" "is" "I") ∈ lw_all := lw_g (lw_at lw_m2 226 rfl) rfl
theorem q560 : (Jvm.Cond.soleField "SecretBuyers$Visit" "is") ∈ lw_all := lw_g (lw_at lw_m2 227 rfl) rfl
theorem q561 : (Jvm.Cond.lays "SecretBuyers$Visit" "SecretBuyers$Visit" "brief" "LSecretBuyers$Brief;") ∈ lw_all := lw_g (lw_at lw_m2 228 rfl) rfl
theorem q562 : (Jvm.Cond.soleField "SecretBuyers$Visit" "brief") ∈ lw_all := lw_g (lw_at lw_m2 229 rfl) rfl
theorem q563 : (Jvm.Cond.superclass "SecretBuyers$Visit" "java/lang/Object") ∈ lw_all := lw_g (lw_at lw_m2 230 rfl) rfl
theorem q1027 : (Jvm.Cond.selects "SecretBuyers$Visit" ({ cls := "java/lang/Object", name := "equals", desc := "(Ljava/lang/Object;)Z" } : Jvm.MethodName) ({ cls := "java/lang/Object", name := "equals", desc := "(Ljava/lang/Object;)Z" } : Jvm.MethodName)) ∈ lw_all := lw_g (lw_at lw_m4 214 rfl) rfl
theorem q1208 : (Jvm.Cond.instanceMethod ({ cls := "SecretBuyers$Visit", name := "canBeAlone", desc := "()Z" } : Jvm.MethodName)) ∈ lw_all := lw_g (lw_at lw_m5 155 rfl) rfl
theorem q1209 : (Jvm.Cond.selects "SecretBuyers$Visit" ({ cls := "SecretBuyers$Visit", name := "canBeAlone", desc := "()Z" } : Jvm.MethodName) ({ cls := "SecretBuyers$Visit", name := "canBeAlone", desc := "()Z" } : Jvm.MethodName)) ∈ lw_all := lw_g (lw_at lw_m5 156 rfl) rfl
theorem q1210 : (Jvm.Cond.code ({ cls := "SecretBuyers$Visit", name := "canBeAlone", desc := "()Z" } : Jvm.MethodName) prog_18_method_4_code (1 : Nat) (Option.some Jvm.ClassFile.FieldType.boolean)) ∈ lw_all := lw_g (lw_at lw_m5 157 rfl) rfl
theorem q1211 : (Jvm.Cond.methodLink "SecretBuyers$Visit" (45 : Nat) ({ cls := "SecretBuyers$Visit", name := "behind", desc := "()I" } : Jvm.MethodName)) ∈ lw_all := lw_g (lw_at lw_m5 158 rfl) rfl
theorem q1212 : (Jvm.Cond.instanceMethod ({ cls := "SecretBuyers$Visit", name := "behind", desc := "()I" } : Jvm.MethodName)) ∈ lw_all := lw_g (lw_at lw_m5 159 rfl) rfl
theorem q1213 : (Jvm.Cond.selects "SecretBuyers$Visit" ({ cls := "SecretBuyers$Visit", name := "behind", desc := "()I" } : Jvm.MethodName) ({ cls := "SecretBuyers$Visit", name := "behind", desc := "()I" } : Jvm.MethodName)) ∈ lw_all := lw_g (lw_at lw_m5 160 rfl) rfl
theorem q1214 : (Jvm.Cond.code ({ cls := "SecretBuyers$Visit", name := "behind", desc := "()I" } : Jvm.MethodName) prog_18_method_2_code (1 : Nat) (Option.some Jvm.ClassFile.FieldType.int)) ∈ lw_all := lw_g (lw_at lw_m5 161 rfl) rfl
theorem q1217 : (Jvm.Cond.instanceMethod ({ cls := "SecretBuyers$Visit", name := "isAheadOf", desc := "(LSecretBuyers$Visit;)Z" } : Jvm.MethodName)) ∈ lw_all := lw_g (lw_at lw_m5 164 rfl) rfl
theorem q1218 : (Jvm.Cond.selects "SecretBuyers$Visit" ({ cls := "SecretBuyers$Visit", name := "isAheadOf", desc := "(LSecretBuyers$Visit;)Z" } : Jvm.MethodName) ({ cls := "SecretBuyers$Visit", name := "isAheadOf", desc := "(LSecretBuyers$Visit;)Z" } : Jvm.MethodName)) ∈ lw_all := lw_g (lw_at lw_m5 165 rfl) rfl
theorem q1219 : (Jvm.Cond.code ({ cls := "SecretBuyers$Visit", name := "isAheadOf", desc := "(LSecretBuyers$Visit;)Z" } : Jvm.MethodName) prog_18_method_3_code (2 : Nat) (Option.some Jvm.ClassFile.FieldType.boolean)) ∈ lw_all := lw_g (lw_at lw_m5 166 rfl) rfl
theorem q1342 : (Jvm.Cond.instanceMethod ({ cls := "SecretBuyers$Visit", name := "quarrels", desc := "(LSecretBuyers$Visit;I)Z" } : Jvm.MethodName)) ∈ lw_all := lw_g (lw_at lw_m6 49 rfl) rfl
theorem q1343 : (Jvm.Cond.selects "SecretBuyers$Visit" ({ cls := "SecretBuyers$Visit", name := "quarrels", desc := "(LSecretBuyers$Visit;I)Z" } : Jvm.MethodName) ({ cls := "SecretBuyers$Visit", name := "quarrels", desc := "(LSecretBuyers$Visit;I)Z" } : Jvm.MethodName)) ∈ lw_all := lw_g (lw_at lw_m6 50 rfl) rfl
theorem q1344 : (Jvm.Cond.code ({ cls := "SecretBuyers$Visit", name := "quarrels", desc := "(LSecretBuyers$Visit;I)Z" } : Jvm.MethodName) prog_18_method_5_code (5 : Nat) (Option.some Jvm.ClassFile.FieldType.boolean)) ∈ lw_all := lw_g (lw_at lw_m6 51 rfl) rfl
theorem q1345 : (Jvm.Cond.methodLink "SecretBuyers$Visit" (55 : Nat) ({ cls := "SecretBuyers$Visit", name := "isAheadOf", desc := "(LSecretBuyers$Visit;)Z" } : Jvm.MethodName)) ∈ lw_all := lw_g (lw_at lw_m6 52 rfl) rfl
theorem q1346 : (Jvm.Cond.methodLink "SecretBuyers$Visit" (63 : Nat) ({ cls := "SecretBuyers$Place", name := "way", desc := "(LSecretBuyers$Place;)I" } : Jvm.MethodName)) ∈ lw_all := lw_g (lw_at lw_m6 53 rfl) rfl
theorem q1363 : (Jvm.Cond.instanceMethod ({ cls := "SecretBuyers$Visit", name := "meets", desc := "(LSecretBuyers$Visit;)Z" } : Jvm.MethodName)) ∈ lw_all := lw_g (lw_at lw_m6 70 rfl) rfl
theorem q1364 : (Jvm.Cond.selects "SecretBuyers$Visit" ({ cls := "SecretBuyers$Visit", name := "meets", desc := "(LSecretBuyers$Visit;)Z" } : Jvm.MethodName) ({ cls := "SecretBuyers$Visit", name := "meets", desc := "(LSecretBuyers$Visit;)Z" } : Jvm.MethodName)) ∈ lw_all := lw_g (lw_at lw_m6 71 rfl) rfl
theorem q1365 : (Jvm.Cond.code ({ cls := "SecretBuyers$Visit", name := "meets", desc := "(LSecretBuyers$Visit;)Z" } : Jvm.MethodName) prog_18_method_7_code (2 : Nat) (Option.some Jvm.ClassFile.FieldType.boolean)) ∈ lw_all := lw_g (lw_at lw_m6 72 rfl) rfl
theorem q1366 : (Jvm.Cond.methodLink "SecretBuyers$Visit" (76 : Nat) ({ cls := "SecretBuyers$Visit", name := "counts", desc := "()Z" } : Jvm.MethodName)) ∈ lw_all := lw_g (lw_at lw_m6 73 rfl) rfl
theorem q1367 : (Jvm.Cond.instanceMethod ({ cls := "SecretBuyers$Visit", name := "counts", desc := "()Z" } : Jvm.MethodName)) ∈ lw_all := lw_g (lw_at lw_m6 74 rfl) rfl
theorem q1368 : (Jvm.Cond.selects "SecretBuyers$Visit" ({ cls := "SecretBuyers$Visit", name := "counts", desc := "()Z" } : Jvm.MethodName) ({ cls := "SecretBuyers$Visit", name := "counts", desc := "()Z" } : Jvm.MethodName)) ∈ lw_all := lw_g (lw_at lw_m6 75 rfl) rfl
theorem q1369 : (Jvm.Cond.code ({ cls := "SecretBuyers$Visit", name := "counts", desc := "()Z" } : Jvm.MethodName) prog_18_method_6_code (1 : Nat) (Option.some Jvm.ClassFile.FieldType.boolean)) ∈ lw_all := lw_g (lw_at lw_m6 76 rfl) rfl
theorem q2166 : (Jvm.Cond.castable "SecretBuyers$Visit" "java/lang/Object") ∈ lw_tbl := lw_at lw_m9 153 rfl
theorem in_X7 : ∀ w ∈ wsX70, w ∈ lw_all := lw_in wsX70 [531, 533, 535, 537, 539, 541, 543, 545, 547, 549, 551, 553, 555, 557, 559, 561] (by decide +kernel) (by decide +kernel)
/-! SecretBuyers$Appeal -/
set_option maxRecDepth 100000
def RX8 : String := "SecretBuyers$Appeal"
def TX8 : u_T := fun k => match k with
  | 0 => ("SecretBuyers$Appeal", "visit", "LSecretBuyers$Visit;", true)
  | 1 => ("SecretBuyers$Appeal", "item", "I", true)
  | _ => ("SecretBuyers$Appeal", "day", "I", true)
def tyX8 : Nat → FieldType := fun k => match k with
  | 0 => .object "SecretBuyers$Visit"
  | 1 => .int
  | _ => .int
abbrev wsX80 : List Cond := u_ws RX8 TX8 3
theorem nmX8 : ∀ a, a < 3 → ∀ b, b < 3 → a ≠ b → (TX8 a).2.1 ≠ (TX8 b).2.1 := by decide +kernel
theorem tyX8_ok : ∀ k, k < 3 → parseFieldDescriptor (TX8 k).2.2.1 = some (tyX8 k) := by decide +kernel
abbrev cX8_init : ByteArray := prog_4_method_1_code
def yX8_init : MethodName := ⟨RX8, "<init>", "(LSecretBuyers$Visit;II)V"⟩
def dkwX8_init_0 : List UInt8 := [42, 183, 0, 1, 42, 43, 181, 0, 7, 42, 28, 181, 0, 13, 42, 29, 181, 0, 17, 177]
abbrev dktX8_init_0 : List UInt8 := dkwX8_init_0 ++ []
theorem dksX8_init_0 : cX8_init.data.toList.drop 0 = dktX8_init_0 := by decide +kernel
theorem dX8_init_0 : decode cX8_init 0 = .ok (.aload_n 0, 1) := dk_42 (dk_at dksX8_init_0 0 rfl rfl)
theorem dX8_init_1 : decode cX8_init 1 = .ok (.invokespecial 1, 3) := dk_183 0 1 (dk_at dksX8_init_0 1 rfl rfl)
theorem dX8_init_4 : decode cX8_init 4 = .ok (.aload_n 0, 1) := dk_42 (dk_at dksX8_init_0 4 rfl rfl)
theorem dX8_init_5 : decode cX8_init 5 = .ok (.aload_n 1, 1) := dk_43 (dk_at dksX8_init_0 5 rfl rfl)
theorem dX8_init_6 : decode cX8_init 6 = .ok (.putfield 7, 3) := dk_181 0 7 (dk_at dksX8_init_0 6 rfl rfl)
theorem dX8_init_9 : decode cX8_init 9 = .ok (.aload_n 0, 1) := dk_42 (dk_at dksX8_init_0 9 rfl rfl)
theorem dX8_init_10 : decode cX8_init 10 = .ok (.iload_n 2, 1) := dk_28 (dk_at dksX8_init_0 10 rfl rfl)
theorem dX8_init_11 : decode cX8_init 11 = .ok (.putfield 13, 3) := dk_181 0 13 (dk_at dksX8_init_0 11 rfl rfl)
theorem dX8_init_14 : decode cX8_init 14 = .ok (.aload_n 0, 1) := dk_42 (dk_at dksX8_init_0 14 rfl rfl)
theorem dX8_init_15 : decode cX8_init 15 = .ok (.iload_n 3, 1) := dk_29 (dk_at dksX8_init_0 15 rfl rfl)
theorem dX8_init_16 : decode cX8_init 16 = .ok (.putfield 17, 3) := dk_181 0 17 (dk_at dksX8_init_0 16 rfl rfl)
theorem dX8_init_19 : decode cX8_init 19 = .ok (.return_, 1) := dk_177 (dk_at dksX8_init_0 19 rfl rfl)
theorem q110 : (Jvm.Cond.initialized "SecretBuyers$Appeal") ∈ lw_all := lw_g (lw_at lw_m1 17 rfl) rfl
theorem q426 : (Jvm.Cond.selects "SecretBuyers$Appeal" ({ cls := "java/lang/Object", name := "getClass", desc := "()Ljava/lang/Class;" } : Jvm.MethodName) ({ cls := "java/lang/Object", name := "getClass", desc := "()Ljava/lang/Class;" } : Jvm.MethodName)) ∈ lw_all := lw_g (lw_at lw_m2 93 rfl) rfl
theorem q573 : (Jvm.Cond.instantiable "SecretBuyers$Appeal" (3 : Nat)) ∈ lw_all := lw_g (lw_at lw_m3 0 rfl) rfl
theorem q575 : (Jvm.Cond.instanceMethod ({ cls := "SecretBuyers$Appeal", name := "<init>", desc := "(LSecretBuyers$Visit;II)V" } : Jvm.MethodName)) ∈ lw_all := lw_g (lw_at lw_m3 2 rfl) rfl
theorem q576 : (Jvm.Cond.code ({ cls := "SecretBuyers$Appeal", name := "<init>", desc := "(LSecretBuyers$Visit;II)V" } : Jvm.MethodName) prog_4_method_1_code (4 : Nat) (Option.none : Option Jvm.ClassFile.FieldType)) ∈ lw_all := lw_g (lw_at lw_m3 3 rfl) rfl
theorem q577 : (Jvm.Cond.methodLink "SecretBuyers$Appeal" (1 : Nat) ({ cls := "java/lang/Object", name := "<init>", desc := "()V" } : Jvm.MethodName)) ∈ lw_all := lw_g (lw_at lw_m3 4 rfl) rfl
theorem q578 : (Jvm.Cond.fieldLink "SecretBuyers$Appeal" (7 : Nat) "SecretBuyers$Appeal" "visit" "LSecretBuyers$Visit;") ∈ lw_all := lw_g (lw_at lw_m3 5 rfl) rfl
theorem q580 : (Jvm.Cond.fieldLink "SecretBuyers$Appeal" (13 : Nat) "SecretBuyers$Appeal" "item" "I") ∈ lw_all := lw_g (lw_at lw_m3 7 rfl) rfl
theorem q582 : (Jvm.Cond.fieldLink "SecretBuyers$Appeal" (17 : Nat) "SecretBuyers$Appeal" "day" "I") ∈ lw_all := lw_g (lw_at lw_m3 9 rfl) rfl
theorem q584 : (Jvm.Cond.laysFinal "SecretBuyers$Appeal" "SecretBuyers$Appeal" "visit" "LSecretBuyers$Visit;") ∈ lw_all := lw_g (lw_at lw_m3 11 rfl) rfl
theorem q585 : (Jvm.Cond.soleField "SecretBuyers$Appeal" "visit") ∈ lw_all := lw_g (lw_at lw_m3 12 rfl) rfl
theorem q586 : (Jvm.Cond.laysFinal "SecretBuyers$Appeal" "SecretBuyers$Appeal" "item" "I") ∈ lw_all := lw_g (lw_at lw_m3 13 rfl) rfl
theorem q587 : (Jvm.Cond.soleField "SecretBuyers$Appeal" "item") ∈ lw_all := lw_g (lw_at lw_m3 14 rfl) rfl
theorem q588 : (Jvm.Cond.laysFinal "SecretBuyers$Appeal" "SecretBuyers$Appeal" "day" "I") ∈ lw_all := lw_g (lw_at lw_m3 15 rfl) rfl
theorem q589 : (Jvm.Cond.soleField "SecretBuyers$Appeal" "day") ∈ lw_all := lw_g (lw_at lw_m3 16 rfl) rfl
theorem q590 : (Jvm.Cond.superclass "SecretBuyers$Appeal" "java/lang/Object") ∈ lw_all := lw_g (lw_at lw_m3 17 rfl) rfl
theorem q1015 : (Jvm.Cond.selects "SecretBuyers$Appeal" ({ cls := "java/lang/Object", name := "equals", desc := "(Ljava/lang/Object;)Z" } : Jvm.MethodName) ({ cls := "java/lang/Object", name := "equals", desc := "(Ljava/lang/Object;)Z" } : Jvm.MethodName)) ∈ lw_all := lw_g (lw_at lw_m4 202 rfl) rfl
theorem q2174 : (Jvm.Cond.castable "SecretBuyers$Appeal" "java/lang/Object") ∈ lw_tbl := lw_at lw_m9 161 rfl
theorem in_X8 : ∀ w ∈ wsX80, w ∈ lw_all := lw_in wsX80 [584, 586, 588] (by decide +kernel) (by decide +kernel)
/-! SecretBuyers$Brief -/
set_option maxRecDepth 100000
def RX9 : String := "SecretBuyers$Brief"
def TX9 : u_T := fun k => match k with
  | 0 => ("SecretBuyers$Brief", "day", "I", true)
  | 1 => ("SecretBuyers$Brief", "chain", "I", true)
  | 2 => ("SecretBuyers$Brief", "from", "I", true)
  | 3 => ("SecretBuyers$Brief", "lines", "Ljava/util/ArrayList;", true)
  | 4 => ("SecretBuyers$Brief", "names", "Ljava/util/ArrayList;", true)
  | _ => ("SecretBuyers$Brief", "named", "Ljava/util/ArrayList;", true)
def tyX9 : Nat → FieldType := fun k => match k with
  | 0 => .int
  | 1 => .int
  | 2 => .int
  | 3 => .object "java/util/ArrayList"
  | 4 => .object "java/util/ArrayList"
  | _ => .object "java/util/ArrayList"
abbrev wsX90 : List Cond := u_ws RX9 TX9 6
theorem nmX9 : ∀ a, a < 6 → ∀ b, b < 6 → a ≠ b → (TX9 a).2.1 ≠ (TX9 b).2.1 := by decide +kernel
theorem tyX9_ok : ∀ k, k < 6 → parseFieldDescriptor (TX9 k).2.2.1 = some (tyX9 k) := by decide +kernel
abbrev cX9_init : ByteArray := prog_7_method_1_code
def yX9_init : MethodName := ⟨RX9, "<init>", "(III)V"⟩
def dkwX9_init_2 : List UInt8 := [28, 181, 0, 30, 42, 29, 181, 0, 33, 177]
abbrev dktX9_init_2 : List UInt8 := dkwX9_init_2 ++ []
def dkwX9_init_1 : List UInt8 := [183, 0, 11, 181, 0, 20, 42, 187, 0, 9, 89, 5, 183, 0, 11, 181, 0, 23, 42, 27, 181, 0, 26, 42]
abbrev dktX9_init_1 : List UInt8 := dkwX9_init_1 ++ dktX9_init_2
def dkwX9_init_0 : List UInt8 := [42, 183, 0, 3, 42, 187, 0, 9, 89, 5, 183, 0, 11, 181, 0, 14, 42, 187, 0, 9, 89, 5]
abbrev dktX9_init_0 : List UInt8 := dkwX9_init_0 ++ dktX9_init_1
theorem dksX9_init_0 : cX9_init.data.toList.drop 0 = dktX9_init_0 := by decide +kernel
theorem dksX9_init_1 : cX9_init.data.toList.drop 22 = dktX9_init_1 := dk_seg dksX9_init_0 22 rfl rfl
theorem dksX9_init_2 : cX9_init.data.toList.drop 46 = dktX9_init_2 := dk_seg dksX9_init_1 24 rfl rfl
theorem dX9_init_0 : decode cX9_init 0 = .ok (.aload_n 0, 1) := dk_42 (dk_at dksX9_init_0 0 rfl rfl)
theorem dX9_init_1 : decode cX9_init 1 = .ok (.invokespecial 3, 3) := dk_183 0 3 (dk_at dksX9_init_0 1 rfl rfl)
theorem dX9_init_4 : decode cX9_init 4 = .ok (.aload_n 0, 1) := dk_42 (dk_at dksX9_init_0 4 rfl rfl)
theorem dX9_init_5 : decode cX9_init 5 = .ok (.new 9, 3) := dk_187 0 9 (dk_at dksX9_init_0 5 rfl rfl)
theorem dX9_init_8 : decode cX9_init 8 = .ok (.dup, 1) := dk_89 (dk_at dksX9_init_0 8 rfl rfl)
theorem dX9_init_9 : decode cX9_init 9 = .ok (.iconst 2, 1) := dk_5 (dk_at dksX9_init_0 9 rfl rfl)
theorem dX9_init_10 : decode cX9_init 10 = .ok (.invokespecial 11, 3) := dk_183 0 11 (dk_at dksX9_init_0 10 rfl rfl)
theorem dX9_init_13 : decode cX9_init 13 = .ok (.putfield 14, 3) := dk_181 0 14 (dk_at dksX9_init_0 13 rfl rfl)
theorem dX9_init_16 : decode cX9_init 16 = .ok (.aload_n 0, 1) := dk_42 (dk_at dksX9_init_0 16 rfl rfl)
theorem dX9_init_17 : decode cX9_init 17 = .ok (.new 9, 3) := dk_187 0 9 (dk_at dksX9_init_0 17 rfl rfl)
theorem dX9_init_20 : decode cX9_init 20 = .ok (.dup, 1) := dk_89 (dk_at dksX9_init_0 20 rfl rfl)
theorem dX9_init_21 : decode cX9_init 21 = .ok (.iconst 2, 1) := dk_5 (dk_at dksX9_init_0 21 rfl rfl)
theorem dX9_init_22 : decode cX9_init 22 = .ok (.invokespecial 11, 3) := dk_183 0 11 (dk_at dksX9_init_1 0 rfl rfl)
theorem dX9_init_25 : decode cX9_init 25 = .ok (.putfield 20, 3) := dk_181 0 20 (dk_at dksX9_init_1 3 rfl rfl)
theorem dX9_init_28 : decode cX9_init 28 = .ok (.aload_n 0, 1) := dk_42 (dk_at dksX9_init_1 6 rfl rfl)
theorem dX9_init_29 : decode cX9_init 29 = .ok (.new 9, 3) := dk_187 0 9 (dk_at dksX9_init_1 7 rfl rfl)
theorem dX9_init_32 : decode cX9_init 32 = .ok (.dup, 1) := dk_89 (dk_at dksX9_init_1 10 rfl rfl)
theorem dX9_init_33 : decode cX9_init 33 = .ok (.iconst 2, 1) := dk_5 (dk_at dksX9_init_1 11 rfl rfl)
theorem dX9_init_34 : decode cX9_init 34 = .ok (.invokespecial 11, 3) := dk_183 0 11 (dk_at dksX9_init_1 12 rfl rfl)
theorem dX9_init_37 : decode cX9_init 37 = .ok (.putfield 23, 3) := dk_181 0 23 (dk_at dksX9_init_1 15 rfl rfl)
theorem dX9_init_40 : decode cX9_init 40 = .ok (.aload_n 0, 1) := dk_42 (dk_at dksX9_init_1 18 rfl rfl)
theorem dX9_init_41 : decode cX9_init 41 = .ok (.iload_n 1, 1) := dk_27 (dk_at dksX9_init_1 19 rfl rfl)
theorem dX9_init_42 : decode cX9_init 42 = .ok (.putfield 26, 3) := dk_181 0 26 (dk_at dksX9_init_1 20 rfl rfl)
theorem dX9_init_45 : decode cX9_init 45 = .ok (.aload_n 0, 1) := dk_42 (dk_at dksX9_init_1 23 rfl rfl)
theorem dX9_init_46 : decode cX9_init 46 = .ok (.iload_n 2, 1) := dk_28 (dk_at dksX9_init_2 0 rfl rfl)
theorem dX9_init_47 : decode cX9_init 47 = .ok (.putfield 30, 3) := dk_181 0 30 (dk_at dksX9_init_2 1 rfl rfl)
theorem dX9_init_50 : decode cX9_init 50 = .ok (.aload_n 0, 1) := dk_42 (dk_at dksX9_init_2 4 rfl rfl)
theorem dX9_init_51 : decode cX9_init 51 = .ok (.iload_n 3, 1) := dk_29 (dk_at dksX9_init_2 5 rfl rfl)
theorem dX9_init_52 : decode cX9_init 52 = .ok (.putfield 33, 3) := dk_181 0 33 (dk_at dksX9_init_2 6 rfl rfl)
theorem dX9_init_55 : decode cX9_init 55 = .ok (.return_, 1) := dk_177 (dk_at dksX9_init_2 9 rfl rfl)
abbrev cX9_score : ByteArray := prog_7_method_3_code
def yX9_score : MethodName := ⟨RX9, "score", "(LSecretBuyers$Ask;LSecretBuyers$Visit;I)I"⟩
def dkwX9_score_3 : List UInt8 := [132, 5, 1, 167, 255, 201, 3, 17, 3, 232, 21, 4, 184, 0, 76, 184, 0, 82, 172]
abbrev dktX9_score_3 : List UInt8 := dkwX9_score_3 ++ []
def dkwX9_score_2 : List UInt8 := [153, 0, 24, 21, 4, 42, 180, 0, 14, 21, 5, 182, 0, 50, 192, 0, 60, 43, 182, 0, 73, 96, 54, 4]
abbrev dktX9_score_2 : List UInt8 := dkwX9_score_2 ++ dktX9_score_3
def dkwX9_score_1 : List UInt8 := [182, 0, 42, 162, 0, 49, 42, 180, 0, 14, 21, 5, 182, 0, 50, 192, 0, 60, 43, 182, 0, 70]
abbrev dktX9_score_1 : List UInt8 := dkwX9_score_1 ++ dktX9_score_2
def dkwX9_score_0 : List UInt8 := [42, 43, 44, 29, 182, 0, 66, 154, 0, 5, 3, 172, 3, 54, 4, 3, 54, 5, 21, 5, 42, 180, 0, 14]
abbrev dktX9_score_0 : List UInt8 := dkwX9_score_0 ++ dktX9_score_1
theorem dksX9_score_0 : cX9_score.data.toList.drop 0 = dktX9_score_0 := by decide +kernel
theorem dksX9_score_1 : cX9_score.data.toList.drop 24 = dktX9_score_1 := dk_seg dksX9_score_0 24 rfl rfl
theorem dksX9_score_2 : cX9_score.data.toList.drop 46 = dktX9_score_2 := dk_seg dksX9_score_1 22 rfl rfl
theorem dksX9_score_3 : cX9_score.data.toList.drop 70 = dktX9_score_3 := dk_seg dksX9_score_2 24 rfl rfl
theorem dX9_score_0 : decode cX9_score 0 = .ok (.aload_n 0, 1) := dk_42 (dk_at dksX9_score_0 0 rfl rfl)
theorem dX9_score_1 : decode cX9_score 1 = .ok (.aload_n 1, 1) := dk_43 (dk_at dksX9_score_0 1 rfl rfl)
theorem dX9_score_2 : decode cX9_score 2 = .ok (.aload_n 2, 1) := dk_44 (dk_at dksX9_score_0 2 rfl rfl)
theorem dX9_score_3 : decode cX9_score 3 = .ok (.iload_n 3, 1) := dk_29 (dk_at dksX9_score_0 3 rfl rfl)
theorem dX9_score_4 : decode cX9_score 4 = .ok (.invokevirtual 66, 3) := dk_182 0 66 (dk_at dksX9_score_0 4 rfl rfl)
theorem dX9_score_7 : decode cX9_score 7 = .ok (.ifCond .ne 5, 3) := dk_154 0 5 (dk_at dksX9_score_0 7 rfl rfl)
theorem dX9_score_10 : decode cX9_score 10 = .ok (.iconst 0, 1) := dk_3 (dk_at dksX9_score_0 10 rfl rfl)
theorem dX9_score_11 : decode cX9_score 11 = .ok (.ireturn, 1) := dk_172 (dk_at dksX9_score_0 11 rfl rfl)
theorem dX9_score_12 : decode cX9_score 12 = .ok (.iconst 0, 1) := dk_3 (dk_at dksX9_score_0 12 rfl rfl)
theorem dX9_score_13 : decode cX9_score 13 = .ok (.istore 4, 2) := dk_54 4 (dk_at dksX9_score_0 13 rfl rfl)
theorem dX9_score_15 : decode cX9_score 15 = .ok (.iconst 0, 1) := dk_3 (dk_at dksX9_score_0 15 rfl rfl)
theorem dX9_score_16 : decode cX9_score 16 = .ok (.istore 5, 2) := dk_54 5 (dk_at dksX9_score_0 16 rfl rfl)
theorem dX9_score_18 : decode cX9_score 18 = .ok (.iload 5, 2) := dk_21 5 (dk_at dksX9_score_0 18 rfl rfl)
theorem dX9_score_20 : decode cX9_score 20 = .ok (.aload_n 0, 1) := dk_42 (dk_at dksX9_score_0 20 rfl rfl)
theorem dX9_score_21 : decode cX9_score 21 = .ok (.getfield 14, 3) := dk_180 0 14 (dk_at dksX9_score_0 21 rfl rfl)
theorem dX9_score_24 : decode cX9_score 24 = .ok (.invokevirtual 42, 3) := dk_182 0 42 (dk_at dksX9_score_1 0 rfl rfl)
theorem dX9_score_27 : decode cX9_score 27 = .ok (.if_icmp .ge 49, 3) := dk_162 0 49 (dk_at dksX9_score_1 3 rfl rfl)
theorem dX9_score_30 : decode cX9_score 30 = .ok (.aload_n 0, 1) := dk_42 (dk_at dksX9_score_1 6 rfl rfl)
theorem dX9_score_31 : decode cX9_score 31 = .ok (.getfield 14, 3) := dk_180 0 14 (dk_at dksX9_score_1 7 rfl rfl)
theorem dX9_score_34 : decode cX9_score 34 = .ok (.iload 5, 2) := dk_21 5 (dk_at dksX9_score_1 10 rfl rfl)
theorem dX9_score_36 : decode cX9_score 36 = .ok (.invokevirtual 50, 3) := dk_182 0 50 (dk_at dksX9_score_1 12 rfl rfl)
theorem dX9_score_39 : decode cX9_score 39 = .ok (.checkcast 60, 3) := dk_192 0 60 (dk_at dksX9_score_1 15 rfl rfl)
theorem dX9_score_42 : decode cX9_score 42 = .ok (.aload_n 1, 1) := dk_43 (dk_at dksX9_score_1 18 rfl rfl)
theorem dX9_score_43 : decode cX9_score 43 = .ok (.invokevirtual 70, 3) := dk_182 0 70 (dk_at dksX9_score_1 19 rfl rfl)
theorem dX9_score_46 : decode cX9_score 46 = .ok (.ifCond .eq 24, 3) := dk_153 0 24 (dk_at dksX9_score_2 0 rfl rfl)
theorem dX9_score_49 : decode cX9_score 49 = .ok (.iload 4, 2) := dk_21 4 (dk_at dksX9_score_2 3 rfl rfl)
theorem dX9_score_51 : decode cX9_score 51 = .ok (.aload_n 0, 1) := dk_42 (dk_at dksX9_score_2 5 rfl rfl)
theorem dX9_score_52 : decode cX9_score 52 = .ok (.getfield 14, 3) := dk_180 0 14 (dk_at dksX9_score_2 6 rfl rfl)
theorem dX9_score_55 : decode cX9_score 55 = .ok (.iload 5, 2) := dk_21 5 (dk_at dksX9_score_2 9 rfl rfl)
theorem dX9_score_57 : decode cX9_score 57 = .ok (.invokevirtual 50, 3) := dk_182 0 50 (dk_at dksX9_score_2 11 rfl rfl)
theorem dX9_score_60 : decode cX9_score 60 = .ok (.checkcast 60, 3) := dk_192 0 60 (dk_at dksX9_score_2 14 rfl rfl)
theorem dX9_score_63 : decode cX9_score 63 = .ok (.aload_n 1, 1) := dk_43 (dk_at dksX9_score_2 17 rfl rfl)
theorem dX9_score_64 : decode cX9_score 64 = .ok (.invokevirtual 73, 3) := dk_182 0 73 (dk_at dksX9_score_2 18 rfl rfl)
theorem dX9_score_67 : decode cX9_score 67 = .ok (.iadd, 1) := dk_96 (dk_at dksX9_score_2 21 rfl rfl)
theorem dX9_score_68 : decode cX9_score 68 = .ok (.istore 4, 2) := dk_54 4 (dk_at dksX9_score_2 22 rfl rfl)
theorem dX9_score_70 : decode cX9_score 70 = .ok (.iinc 5 1, 3) := dk_132 5 1 (dk_at dksX9_score_3 0 rfl rfl)
theorem dX9_score_73 : decode cX9_score 73 = .ok (.goto (-55), 3) := dk_167 255 201 (dk_at dksX9_score_3 3 rfl rfl)
theorem dX9_score_76 : decode cX9_score 76 = .ok (.iconst 0, 1) := dk_3 (dk_at dksX9_score_3 6 rfl rfl)
theorem dX9_score_77 : decode cX9_score 77 = .ok (.sipush 1000, 3) := dk_17 3 232 (dk_at dksX9_score_3 7 rfl rfl)
theorem dX9_score_80 : decode cX9_score 80 = .ok (.iload 4, 2) := dk_21 4 (dk_at dksX9_score_3 10 rfl rfl)
theorem dX9_score_82 : decode cX9_score 82 = .ok (.invokestatic 76, 3) := dk_184 0 76 (dk_at dksX9_score_3 12 rfl rfl)
theorem dX9_score_85 : decode cX9_score 85 = .ok (.invokestatic 82, 3) := dk_184 0 82 (dk_at dksX9_score_3 15 rfl rfl)
theorem dX9_score_88 : decode cX9_score 88 = .ok (.ireturn, 1) := dk_172 (dk_at dksX9_score_3 18 rfl rfl)
abbrev cX9_asks : ByteArray := prog_7_method_2_code
def yX9_asks : MethodName := ⟨RX9, "asks", "(LSecretBuyers$Ask;LSecretBuyers$Visit;I)Z"⟩
def dkwX9_asks_4 : List UInt8 := [167, 255, 220, 4, 172]
abbrev dktX9_asks_4 : List UInt8 := dkwX9_asks_4 ++ []
def dkwX9_asks_3 : List UInt8 := [180, 0, 14, 21, 4, 182, 0, 50, 192, 0, 60, 43, 182, 0, 62, 153, 0, 5, 3, 172, 132, 4, 1]
abbrev dktX9_asks_3 : List UInt8 := dkwX9_asks_3 ++ dktX9_asks_4
def dkwX9_asks_2 : List UInt8 := [132, 4, 1, 167, 255, 218, 3, 54, 4, 21, 4, 42, 180, 0, 14, 182, 0, 42, 162, 0, 30, 42]
abbrev dktX9_asks_2 : List UInt8 := dkwX9_asks_2 ++ dktX9_asks_3
def dkwX9_asks_1 : List UInt8 := [180, 0, 46, 21, 4, 42, 180, 0, 23, 21, 4, 182, 0, 50, 192, 0, 54, 43, 182, 0, 56, 79]
abbrev dktX9_asks_1 : List UInt8 := dkwX9_asks_1 ++ dktX9_asks_2
def dkwX9_asks_0 : List UInt8 := [43, 44, 29, 182, 0, 36, 3, 54, 4, 21, 4, 42, 180, 0, 23, 182, 0, 42, 162, 0, 32, 43]
abbrev dktX9_asks_0 : List UInt8 := dkwX9_asks_0 ++ dktX9_asks_1
theorem dksX9_asks_0 : cX9_asks.data.toList.drop 0 = dktX9_asks_0 := by decide +kernel
theorem dksX9_asks_1 : cX9_asks.data.toList.drop 22 = dktX9_asks_1 := dk_seg dksX9_asks_0 22 rfl rfl
theorem dksX9_asks_2 : cX9_asks.data.toList.drop 44 = dktX9_asks_2 := dk_seg dksX9_asks_1 22 rfl rfl
theorem dksX9_asks_3 : cX9_asks.data.toList.drop 66 = dktX9_asks_3 := dk_seg dksX9_asks_2 22 rfl rfl
theorem dksX9_asks_4 : cX9_asks.data.toList.drop 89 = dktX9_asks_4 := dk_seg dksX9_asks_3 23 rfl rfl
theorem dX9_asks_0 : decode cX9_asks 0 = .ok (.aload_n 1, 1) := dk_43 (dk_at dksX9_asks_0 0 rfl rfl)
theorem dX9_asks_1 : decode cX9_asks 1 = .ok (.aload_n 2, 1) := dk_44 (dk_at dksX9_asks_0 1 rfl rfl)
theorem dX9_asks_2 : decode cX9_asks 2 = .ok (.iload_n 3, 1) := dk_29 (dk_at dksX9_asks_0 2 rfl rfl)
theorem dX9_asks_3 : decode cX9_asks 3 = .ok (.invokevirtual 36, 3) := dk_182 0 36 (dk_at dksX9_asks_0 3 rfl rfl)
theorem dX9_asks_6 : decode cX9_asks 6 = .ok (.iconst 0, 1) := dk_3 (dk_at dksX9_asks_0 6 rfl rfl)
theorem dX9_asks_7 : decode cX9_asks 7 = .ok (.istore 4, 2) := dk_54 4 (dk_at dksX9_asks_0 7 rfl rfl)
theorem dX9_asks_9 : decode cX9_asks 9 = .ok (.iload 4, 2) := dk_21 4 (dk_at dksX9_asks_0 9 rfl rfl)
theorem dX9_asks_11 : decode cX9_asks 11 = .ok (.aload_n 0, 1) := dk_42 (dk_at dksX9_asks_0 11 rfl rfl)
theorem dX9_asks_12 : decode cX9_asks 12 = .ok (.getfield 23, 3) := dk_180 0 23 (dk_at dksX9_asks_0 12 rfl rfl)
theorem dX9_asks_15 : decode cX9_asks 15 = .ok (.invokevirtual 42, 3) := dk_182 0 42 (dk_at dksX9_asks_0 15 rfl rfl)
theorem dX9_asks_18 : decode cX9_asks 18 = .ok (.if_icmp .ge 32, 3) := dk_162 0 32 (dk_at dksX9_asks_0 18 rfl rfl)
theorem dX9_asks_21 : decode cX9_asks 21 = .ok (.aload_n 1, 1) := dk_43 (dk_at dksX9_asks_0 21 rfl rfl)
theorem dX9_asks_22 : decode cX9_asks 22 = .ok (.getfield 46, 3) := dk_180 0 46 (dk_at dksX9_asks_1 0 rfl rfl)
theorem dX9_asks_25 : decode cX9_asks 25 = .ok (.iload 4, 2) := dk_21 4 (dk_at dksX9_asks_1 3 rfl rfl)
theorem dX9_asks_27 : decode cX9_asks 27 = .ok (.aload_n 0, 1) := dk_42 (dk_at dksX9_asks_1 5 rfl rfl)
theorem dX9_asks_28 : decode cX9_asks 28 = .ok (.getfield 23, 3) := dk_180 0 23 (dk_at dksX9_asks_1 6 rfl rfl)
theorem dX9_asks_31 : decode cX9_asks 31 = .ok (.iload 4, 2) := dk_21 4 (dk_at dksX9_asks_1 9 rfl rfl)
theorem dX9_asks_33 : decode cX9_asks 33 = .ok (.invokevirtual 50, 3) := dk_182 0 50 (dk_at dksX9_asks_1 11 rfl rfl)
theorem dX9_asks_36 : decode cX9_asks 36 = .ok (.checkcast 54, 3) := dk_192 0 54 (dk_at dksX9_asks_1 14 rfl rfl)
theorem dX9_asks_39 : decode cX9_asks 39 = .ok (.aload_n 1, 1) := dk_43 (dk_at dksX9_asks_1 17 rfl rfl)
theorem dX9_asks_40 : decode cX9_asks 40 = .ok (.invokevirtual 56, 3) := dk_182 0 56 (dk_at dksX9_asks_1 18 rfl rfl)
theorem dX9_asks_43 : decode cX9_asks 43 = .ok (.iastore, 1) := dk_79 (dk_at dksX9_asks_1 21 rfl rfl)
theorem dX9_asks_44 : decode cX9_asks 44 = .ok (.iinc 4 1, 3) := dk_132 4 1 (dk_at dksX9_asks_2 0 rfl rfl)
theorem dX9_asks_47 : decode cX9_asks 47 = .ok (.goto (-38), 3) := dk_167 255 218 (dk_at dksX9_asks_2 3 rfl rfl)
theorem dX9_asks_50 : decode cX9_asks 50 = .ok (.iconst 0, 1) := dk_3 (dk_at dksX9_asks_2 6 rfl rfl)
theorem dX9_asks_51 : decode cX9_asks 51 = .ok (.istore 4, 2) := dk_54 4 (dk_at dksX9_asks_2 7 rfl rfl)
theorem dX9_asks_53 : decode cX9_asks 53 = .ok (.iload 4, 2) := dk_21 4 (dk_at dksX9_asks_2 9 rfl rfl)
theorem dX9_asks_55 : decode cX9_asks 55 = .ok (.aload_n 0, 1) := dk_42 (dk_at dksX9_asks_2 11 rfl rfl)
theorem dX9_asks_56 : decode cX9_asks 56 = .ok (.getfield 14, 3) := dk_180 0 14 (dk_at dksX9_asks_2 12 rfl rfl)
theorem dX9_asks_59 : decode cX9_asks 59 = .ok (.invokevirtual 42, 3) := dk_182 0 42 (dk_at dksX9_asks_2 15 rfl rfl)
theorem dX9_asks_62 : decode cX9_asks 62 = .ok (.if_icmp .ge 30, 3) := dk_162 0 30 (dk_at dksX9_asks_2 18 rfl rfl)
theorem dX9_asks_65 : decode cX9_asks 65 = .ok (.aload_n 0, 1) := dk_42 (dk_at dksX9_asks_2 21 rfl rfl)
theorem dX9_asks_66 : decode cX9_asks 66 = .ok (.getfield 14, 3) := dk_180 0 14 (dk_at dksX9_asks_3 0 rfl rfl)
theorem dX9_asks_69 : decode cX9_asks 69 = .ok (.iload 4, 2) := dk_21 4 (dk_at dksX9_asks_3 3 rfl rfl)
theorem dX9_asks_71 : decode cX9_asks 71 = .ok (.invokevirtual 50, 3) := dk_182 0 50 (dk_at dksX9_asks_3 5 rfl rfl)
theorem dX9_asks_74 : decode cX9_asks 74 = .ok (.checkcast 60, 3) := dk_192 0 60 (dk_at dksX9_asks_3 8 rfl rfl)
theorem dX9_asks_77 : decode cX9_asks 77 = .ok (.aload_n 1, 1) := dk_43 (dk_at dksX9_asks_3 11 rfl rfl)
theorem dX9_asks_78 : decode cX9_asks 78 = .ok (.invokevirtual 62, 3) := dk_182 0 62 (dk_at dksX9_asks_3 12 rfl rfl)
theorem dX9_asks_81 : decode cX9_asks 81 = .ok (.ifCond .eq 5, 3) := dk_153 0 5 (dk_at dksX9_asks_3 15 rfl rfl)
theorem dX9_asks_84 : decode cX9_asks 84 = .ok (.iconst 0, 1) := dk_3 (dk_at dksX9_asks_3 18 rfl rfl)
theorem dX9_asks_85 : decode cX9_asks 85 = .ok (.ireturn, 1) := dk_172 (dk_at dksX9_asks_3 19 rfl rfl)
theorem dX9_asks_86 : decode cX9_asks 86 = .ok (.iinc 4 1, 3) := dk_132 4 1 (dk_at dksX9_asks_3 20 rfl rfl)
theorem dX9_asks_89 : decode cX9_asks 89 = .ok (.goto (-36), 3) := dk_167 255 220 (dk_at dksX9_asks_4 0 rfl rfl)
theorem dX9_asks_92 : decode cX9_asks 92 = .ok (.iconst 1, 1) := dk_4 (dk_at dksX9_asks_4 3 rfl rfl)
theorem dX9_asks_93 : decode cX9_asks 93 = .ok (.ireturn, 1) := dk_172 (dk_at dksX9_asks_4 4 rfl rfl)
abbrev cX9_bonus : ByteArray := prog_7_method_4_code
def yX9_bonus : MethodName := ⟨RX9, "bonus", "(LSecretBuyers$Ask;LSecretBuyers$Visit;I)I"⟩
def dkwX9_bonus_3 : List UInt8 := [182, 0, 50, 192, 0, 60, 182, 0, 85, 172, 132, 4, 1, 167, 255, 188, 3, 172]
abbrev dktX9_bonus_3 : List UInt8 := dkwX9_bonus_3 ++ []
def dkwX9_bonus_2 : List UInt8 := [180, 0, 14, 21, 4, 182, 0, 50, 192, 0, 60, 43, 182, 0, 70, 153, 0, 19, 42, 180, 0, 14, 21, 4]
abbrev dktX9_bonus_2 : List UInt8 := dkwX9_bonus_2 ++ dktX9_bonus_3
def dkwX9_bonus_1 : List UInt8 := [162, 0, 62, 42, 180, 0, 14, 21, 4, 182, 0, 50, 192, 0, 60, 182, 0, 85, 155, 0, 38, 42]
abbrev dktX9_bonus_1 : List UInt8 := dkwX9_bonus_1 ++ dktX9_bonus_2
def dkwX9_bonus_0 : List UInt8 := [42, 43, 44, 29, 182, 0, 66, 154, 0, 5, 3, 172, 3, 54, 4, 21, 4, 42, 180, 0, 14, 182, 0, 42]
abbrev dktX9_bonus_0 : List UInt8 := dkwX9_bonus_0 ++ dktX9_bonus_1
theorem dksX9_bonus_0 : cX9_bonus.data.toList.drop 0 = dktX9_bonus_0 := by decide +kernel
theorem dksX9_bonus_1 : cX9_bonus.data.toList.drop 24 = dktX9_bonus_1 := dk_seg dksX9_bonus_0 24 rfl rfl
theorem dksX9_bonus_2 : cX9_bonus.data.toList.drop 46 = dktX9_bonus_2 := dk_seg dksX9_bonus_1 22 rfl rfl
theorem dksX9_bonus_3 : cX9_bonus.data.toList.drop 70 = dktX9_bonus_3 := dk_seg dksX9_bonus_2 24 rfl rfl
theorem dX9_bonus_0 : decode cX9_bonus 0 = .ok (.aload_n 0, 1) := dk_42 (dk_at dksX9_bonus_0 0 rfl rfl)
theorem dX9_bonus_1 : decode cX9_bonus 1 = .ok (.aload_n 1, 1) := dk_43 (dk_at dksX9_bonus_0 1 rfl rfl)
theorem dX9_bonus_2 : decode cX9_bonus 2 = .ok (.aload_n 2, 1) := dk_44 (dk_at dksX9_bonus_0 2 rfl rfl)
theorem dX9_bonus_3 : decode cX9_bonus 3 = .ok (.iload_n 3, 1) := dk_29 (dk_at dksX9_bonus_0 3 rfl rfl)
theorem dX9_bonus_4 : decode cX9_bonus 4 = .ok (.invokevirtual 66, 3) := dk_182 0 66 (dk_at dksX9_bonus_0 4 rfl rfl)
theorem dX9_bonus_7 : decode cX9_bonus 7 = .ok (.ifCond .ne 5, 3) := dk_154 0 5 (dk_at dksX9_bonus_0 7 rfl rfl)
theorem dX9_bonus_10 : decode cX9_bonus 10 = .ok (.iconst 0, 1) := dk_3 (dk_at dksX9_bonus_0 10 rfl rfl)
theorem dX9_bonus_11 : decode cX9_bonus 11 = .ok (.ireturn, 1) := dk_172 (dk_at dksX9_bonus_0 11 rfl rfl)
theorem dX9_bonus_12 : decode cX9_bonus 12 = .ok (.iconst 0, 1) := dk_3 (dk_at dksX9_bonus_0 12 rfl rfl)
theorem dX9_bonus_13 : decode cX9_bonus 13 = .ok (.istore 4, 2) := dk_54 4 (dk_at dksX9_bonus_0 13 rfl rfl)
theorem dX9_bonus_15 : decode cX9_bonus 15 = .ok (.iload 4, 2) := dk_21 4 (dk_at dksX9_bonus_0 15 rfl rfl)
theorem dX9_bonus_17 : decode cX9_bonus 17 = .ok (.aload_n 0, 1) := dk_42 (dk_at dksX9_bonus_0 17 rfl rfl)
theorem dX9_bonus_18 : decode cX9_bonus 18 = .ok (.getfield 14, 3) := dk_180 0 14 (dk_at dksX9_bonus_0 18 rfl rfl)
theorem dX9_bonus_21 : decode cX9_bonus 21 = .ok (.invokevirtual 42, 3) := dk_182 0 42 (dk_at dksX9_bonus_0 21 rfl rfl)
theorem dX9_bonus_24 : decode cX9_bonus 24 = .ok (.if_icmp .ge 62, 3) := dk_162 0 62 (dk_at dksX9_bonus_1 0 rfl rfl)
theorem dX9_bonus_27 : decode cX9_bonus 27 = .ok (.aload_n 0, 1) := dk_42 (dk_at dksX9_bonus_1 3 rfl rfl)
theorem dX9_bonus_28 : decode cX9_bonus 28 = .ok (.getfield 14, 3) := dk_180 0 14 (dk_at dksX9_bonus_1 4 rfl rfl)
theorem dX9_bonus_31 : decode cX9_bonus 31 = .ok (.iload 4, 2) := dk_21 4 (dk_at dksX9_bonus_1 7 rfl rfl)
theorem dX9_bonus_33 : decode cX9_bonus 33 = .ok (.invokevirtual 50, 3) := dk_182 0 50 (dk_at dksX9_bonus_1 9 rfl rfl)
theorem dX9_bonus_36 : decode cX9_bonus 36 = .ok (.checkcast 60, 3) := dk_192 0 60 (dk_at dksX9_bonus_1 12 rfl rfl)
theorem dX9_bonus_39 : decode cX9_bonus 39 = .ok (.invokevirtual 85, 3) := dk_182 0 85 (dk_at dksX9_bonus_1 15 rfl rfl)
theorem dX9_bonus_42 : decode cX9_bonus 42 = .ok (.ifCond .lt 38, 3) := dk_155 0 38 (dk_at dksX9_bonus_1 18 rfl rfl)
theorem dX9_bonus_45 : decode cX9_bonus 45 = .ok (.aload_n 0, 1) := dk_42 (dk_at dksX9_bonus_1 21 rfl rfl)
theorem dX9_bonus_46 : decode cX9_bonus 46 = .ok (.getfield 14, 3) := dk_180 0 14 (dk_at dksX9_bonus_2 0 rfl rfl)
theorem dX9_bonus_49 : decode cX9_bonus 49 = .ok (.iload 4, 2) := dk_21 4 (dk_at dksX9_bonus_2 3 rfl rfl)
theorem dX9_bonus_51 : decode cX9_bonus 51 = .ok (.invokevirtual 50, 3) := dk_182 0 50 (dk_at dksX9_bonus_2 5 rfl rfl)
theorem dX9_bonus_54 : decode cX9_bonus 54 = .ok (.checkcast 60, 3) := dk_192 0 60 (dk_at dksX9_bonus_2 8 rfl rfl)
theorem dX9_bonus_57 : decode cX9_bonus 57 = .ok (.aload_n 1, 1) := dk_43 (dk_at dksX9_bonus_2 11 rfl rfl)
theorem dX9_bonus_58 : decode cX9_bonus 58 = .ok (.invokevirtual 70, 3) := dk_182 0 70 (dk_at dksX9_bonus_2 12 rfl rfl)
theorem dX9_bonus_61 : decode cX9_bonus 61 = .ok (.ifCond .eq 19, 3) := dk_153 0 19 (dk_at dksX9_bonus_2 15 rfl rfl)
theorem dX9_bonus_64 : decode cX9_bonus 64 = .ok (.aload_n 0, 1) := dk_42 (dk_at dksX9_bonus_2 18 rfl rfl)
theorem dX9_bonus_65 : decode cX9_bonus 65 = .ok (.getfield 14, 3) := dk_180 0 14 (dk_at dksX9_bonus_2 19 rfl rfl)
theorem dX9_bonus_68 : decode cX9_bonus 68 = .ok (.iload 4, 2) := dk_21 4 (dk_at dksX9_bonus_2 22 rfl rfl)
theorem dX9_bonus_70 : decode cX9_bonus 70 = .ok (.invokevirtual 50, 3) := dk_182 0 50 (dk_at dksX9_bonus_3 0 rfl rfl)
theorem dX9_bonus_73 : decode cX9_bonus 73 = .ok (.checkcast 60, 3) := dk_192 0 60 (dk_at dksX9_bonus_3 3 rfl rfl)
theorem dX9_bonus_76 : decode cX9_bonus 76 = .ok (.invokevirtual 85, 3) := dk_182 0 85 (dk_at dksX9_bonus_3 6 rfl rfl)
theorem dX9_bonus_79 : decode cX9_bonus 79 = .ok (.ireturn, 1) := dk_172 (dk_at dksX9_bonus_3 9 rfl rfl)
theorem dX9_bonus_80 : decode cX9_bonus 80 = .ok (.iinc 4 1, 3) := dk_132 4 1 (dk_at dksX9_bonus_3 10 rfl rfl)
theorem dX9_bonus_83 : decode cX9_bonus 83 = .ok (.goto (-68), 3) := dk_167 255 188 (dk_at dksX9_bonus_3 13 rfl rfl)
theorem dX9_bonus_86 : decode cX9_bonus 86 = .ok (.iconst 0, 1) := dk_3 (dk_at dksX9_bonus_3 16 rfl rfl)
theorem dX9_bonus_87 : decode cX9_bonus 87 = .ok (.ireturn, 1) := dk_172 (dk_at dksX9_bonus_3 17 rfl rfl)
theorem q111 : (Jvm.Cond.initialized "SecretBuyers$Brief") ∈ lw_all := lw_g (lw_at lw_m1 18 rfl) rfl
theorem q221 : (Jvm.Cond.fieldLinkNest "SecretBuyers$Brief" (46 : Nat) "SecretBuyers$Ask" "name" "[I" "SecretBuyers") ∈ lw_tbl := lw_at lw_m1 128 rfl
theorem q429 : (Jvm.Cond.selects "SecretBuyers$Brief" ({ cls := "java/lang/Object", name := "getClass", desc := "()Ljava/lang/Class;" } : Jvm.MethodName) ({ cls := "java/lang/Object", name := "getClass", desc := "()Ljava/lang/Class;" } : Jvm.MethodName)) ∈ lw_all := lw_g (lw_at lw_m2 96 rfl) rfl
theorem q608 : (Jvm.Cond.instantiable "SecretBuyers$Brief" (6 : Nat)) ∈ lw_all := lw_g (lw_at lw_m3 35 rfl) rfl
theorem q610 : (Jvm.Cond.instanceMethod ({ cls := "SecretBuyers$Brief", name := "<init>", desc := "(III)V" } : Jvm.MethodName)) ∈ lw_all := lw_g (lw_at lw_m3 37 rfl) rfl
theorem q611 : (Jvm.Cond.code ({ cls := "SecretBuyers$Brief", name := "<init>", desc := "(III)V" } : Jvm.MethodName) prog_7_method_1_code (4 : Nat) (Option.none : Option Jvm.ClassFile.FieldType)) ∈ lw_all := lw_g (lw_at lw_m3 38 rfl) rfl
theorem q612 : (Jvm.Cond.methodLink "SecretBuyers$Brief" (3 : Nat) ({ cls := "java/lang/Object", name := "<init>", desc := "()V" } : Jvm.MethodName)) ∈ lw_all := lw_g (lw_at lw_m3 39 rfl) rfl
theorem q613 : (Jvm.Cond.classLink "SecretBuyers$Brief" (9 : Nat) "java/util/ArrayList") ∈ lw_all := lw_g (lw_at lw_m3 40 rfl) rfl
theorem q614 : (Jvm.Cond.methodLink "SecretBuyers$Brief" (11 : Nat) ({ cls := "java/util/ArrayList", name := "<init>", desc := "(I)V" } : Jvm.MethodName)) ∈ lw_all := lw_g (lw_at lw_m3 41 rfl) rfl
theorem q615 : (Jvm.Cond.fieldLink "SecretBuyers$Brief" (26 : Nat) "SecretBuyers$Brief" "day" "I") ∈ lw_all := lw_g (lw_at lw_m3 42 rfl) rfl
theorem q617 : (Jvm.Cond.fieldLink "SecretBuyers$Brief" (30 : Nat) "SecretBuyers$Brief" "chain" "I") ∈ lw_all := lw_g (lw_at lw_m3 44 rfl) rfl
theorem q619 : (Jvm.Cond.fieldLink "SecretBuyers$Brief" (33 : Nat) "SecretBuyers$Brief" "from" "I") ∈ lw_all := lw_g (lw_at lw_m3 46 rfl) rfl
theorem q621 : (Jvm.Cond.fieldLink "SecretBuyers$Brief" (14 : Nat) "SecretBuyers$Brief" "lines" "Ljava/util/ArrayList;") ∈ lw_all := lw_g (lw_at lw_m3 48 rfl) rfl
theorem q623 : (Jvm.Cond.fieldLink "SecretBuyers$Brief" (20 : Nat) "SecretBuyers$Brief" "names" "Ljava/util/ArrayList;") ∈ lw_all := lw_g (lw_at lw_m3 50 rfl) rfl
theorem q625 : (Jvm.Cond.fieldLink "SecretBuyers$Brief" (23 : Nat) "SecretBuyers$Brief" "named" "Ljava/util/ArrayList;") ∈ lw_all := lw_g (lw_at lw_m3 52 rfl) rfl
theorem q627 : (Jvm.Cond.laysFinal "SecretBuyers$Brief" "SecretBuyers$Brief" "day" "I") ∈ lw_all := lw_g (lw_at lw_m3 54 rfl) rfl
theorem q628 : (Jvm.Cond.soleField "SecretBuyers$Brief" "day") ∈ lw_all := lw_g (lw_at lw_m3 55 rfl) rfl
theorem q629 : (Jvm.Cond.laysFinal "SecretBuyers$Brief" "SecretBuyers$Brief" "chain" "I") ∈ lw_all := lw_g (lw_at lw_m3 56 rfl) rfl
theorem q630 : (Jvm.Cond.soleField "SecretBuyers$Brief" "chain") ∈ lw_all := lw_g (lw_at lw_m3 57 rfl) rfl
theorem q631 : (Jvm.Cond.laysFinal "SecretBuyers$Brief" "SecretBuyers$Brief" "from" "I") ∈ lw_all := lw_g (lw_at lw_m3 58 rfl) rfl
theorem q632 : (Jvm.Cond.soleField "SecretBuyers$Brief" "from") ∈ lw_all := lw_g (lw_at lw_m3 59 rfl) rfl
theorem q633 : (Jvm.Cond.laysFinal "SecretBuyers$Brief" "SecretBuyers$Brief" "lines" "Ljava/util/ArrayList;") ∈ lw_all := lw_g (lw_at lw_m3 60 rfl) rfl
theorem q634 : (Jvm.Cond.soleField "SecretBuyers$Brief" "lines") ∈ lw_all := lw_g (lw_at lw_m3 61 rfl) rfl
theorem q635 : (Jvm.Cond.laysFinal "SecretBuyers$Brief" "SecretBuyers$Brief" "names" "Ljava/util/ArrayList;") ∈ lw_all := lw_g (lw_at lw_m3 62 rfl) rfl
theorem q636 : (Jvm.Cond.soleField "SecretBuyers$Brief" "names") ∈ lw_all := lw_g (lw_at lw_m3 63 rfl) rfl
theorem q637 : (Jvm.Cond.laysFinal "SecretBuyers$Brief" "SecretBuyers$Brief" "named" "Ljava/util/ArrayList;") ∈ lw_all := lw_g (lw_at lw_m3 64 rfl) rfl
theorem q638 : (Jvm.Cond.soleField "SecretBuyers$Brief" "named") ∈ lw_all := lw_g (lw_at lw_m3 65 rfl) rfl
theorem q639 : (Jvm.Cond.superclass "SecretBuyers$Brief" "java/lang/Object") ∈ lw_all := lw_g (lw_at lw_m3 66 rfl) rfl
theorem q1018 : (Jvm.Cond.selects "SecretBuyers$Brief" ({ cls := "java/lang/Object", name := "equals", desc := "(Ljava/lang/Object;)Z" } : Jvm.MethodName) ({ cls := "java/lang/Object", name := "equals", desc := "(Ljava/lang/Object;)Z" } : Jvm.MethodName)) ∈ lw_all := lw_g (lw_at lw_m4 205 rfl) rfl
theorem q1234 : (Jvm.Cond.instanceMethod ({ cls := "SecretBuyers$Brief", name := "score", desc := "(LSecretBuyers$Ask;LSecretBuyers$Visit;I)I" } : Jvm.MethodName)) ∈ lw_all := lw_g (lw_at lw_m5 181 rfl) rfl
theorem q1235 : (Jvm.Cond.selects "SecretBuyers$Brief" ({ cls := "SecretBuyers$Brief", name := "score", desc := "(LSecretBuyers$Ask;LSecretBuyers$Visit;I)I" } : Jvm.MethodName) ({ cls := "SecretBuyers$Brief", name := "score", desc := "(LSecretBuyers$Ask;LSecretBuyers$Visit;I)I" } : Jvm.MethodName)) ∈ lw_all := lw_g (lw_at lw_m5 182 rfl) rfl
theorem q1236 : (Jvm.Cond.code ({ cls := "SecretBuyers$Brief", name := "score", desc := "(LSecretBuyers$Ask;LSecretBuyers$Visit;I)I" } : Jvm.MethodName) prog_7_method_3_code (6 : Nat) (Option.some Jvm.ClassFile.FieldType.int)) ∈ lw_all := lw_g (lw_at lw_m5 183 rfl) rfl
theorem q1237 : (Jvm.Cond.methodLink "SecretBuyers$Brief" (66 : Nat) ({ cls := "SecretBuyers$Brief", name := "asks", desc := "(LSecretBuyers$Ask;LSecretBuyers$Visit;I)Z" } : Jvm.MethodName)) ∈ lw_all := lw_g (lw_at lw_m5 184 rfl) rfl
theorem q1238 : (Jvm.Cond.privateMethod ({ cls := "SecretBuyers$Brief", name := "asks", desc := "(LSecretBuyers$Ask;LSecretBuyers$Visit;I)Z" } : Jvm.MethodName)) ∈ lw_tbl := lw_at lw_m5 185 rfl
theorem q1239 : (Jvm.Cond.instanceMethod ({ cls := "SecretBuyers$Brief", name := "asks", desc := "(LSecretBuyers$Ask;LSecretBuyers$Visit;I)Z" } : Jvm.MethodName)) ∈ lw_all := lw_g (lw_at lw_m5 186 rfl) rfl
theorem q1240 : (Jvm.Cond.code ({ cls := "SecretBuyers$Brief", name := "asks", desc := "(LSecretBuyers$Ask;LSecretBuyers$Visit;I)Z" } : Jvm.MethodName) prog_7_method_2_code (5 : Nat) (Option.some Jvm.ClassFile.FieldType.boolean)) ∈ lw_all := lw_g (lw_at lw_m5 187 rfl) rfl
theorem q1241 : (Jvm.Cond.methodLink "SecretBuyers$Brief" (36 : Nat) ({ cls := "SecretBuyers$Ask", name := "be", desc := "(LSecretBuyers$Visit;I)V" } : Jvm.MethodName)) ∈ lw_all := lw_g (lw_at lw_m5 188 rfl) rfl
theorem q1251 : (Jvm.Cond.methodLink "SecretBuyers$Brief" (42 : Nat) ({ cls := "java/util/ArrayList", name := "size", desc := "()I" } : Jvm.MethodName)) ∈ lw_all := lw_g (lw_at lw_m5 198 rfl) rfl
theorem q1252 : (Jvm.Cond.methodLink "SecretBuyers$Brief" (50 : Nat) ({ cls := "java/util/ArrayList", name := "get", desc := "(I)Ljava/lang/Object;" } : Jvm.MethodName)) ∈ lw_all := lw_g (lw_at lw_m5 199 rfl) rfl
theorem q1253 : (Jvm.Cond.classLink "SecretBuyers$Brief" (54 : Nat) "SecretBuyers$Exp") ∈ lw_all := lw_g (lw_at lw_m5 200 rfl) rfl
theorem q1254 : (Jvm.Cond.methodLink "SecretBuyers$Brief" (56 : Nat) ({ cls := "SecretBuyers$Exp", name := "value", desc := "(LSecretBuyers$Ask;)I" } : Jvm.MethodName)) ∈ lw_all := lw_g (lw_at lw_m5 201 rfl) rfl
theorem q1290 : (Jvm.Cond.classLink "SecretBuyers$Brief" (60 : Nat) "SecretBuyers$Line") ∈ lw_all := lw_g (lw_at lw_m5 237 rfl) rfl
theorem q1291 : (Jvm.Cond.methodLink "SecretBuyers$Brief" (62 : Nat) ({ cls := "SecretBuyers$Line", name := "fails", desc := "(LSecretBuyers$Ask;)Z" } : Jvm.MethodName)) ∈ lw_all := lw_g (lw_at lw_m5 238 rfl) rfl
theorem q1307 : (Jvm.Cond.methodLink "SecretBuyers$Brief" (70 : Nat) ({ cls := "SecretBuyers$Line", name := "holds", desc := "(LSecretBuyers$Ask;)Z" } : Jvm.MethodName)) ∈ lw_all := lw_g (lw_at lw_m6 14 rfl) rfl
theorem q1308 : (Jvm.Cond.methodLink "SecretBuyers$Brief" (73 : Nat) ({ cls := "SecretBuyers$Line", name := "adds", desc := "(LSecretBuyers$Ask;)I" } : Jvm.MethodName)) ∈ lw_all := lw_g (lw_at lw_m6 15 rfl) rfl
theorem q1318 : (Jvm.Cond.methodLink "SecretBuyers$Brief" (76 : Nat) ({ cls := "java/lang/Math", name := "min", desc := "(II)I" } : Jvm.MethodName)) ∈ lw_all := lw_g (lw_at lw_m6 25 rfl) rfl
theorem q1319 : (Jvm.Cond.methodLink "SecretBuyers$Brief" (82 : Nat) ({ cls := "java/lang/Math", name := "max", desc := "(II)I" } : Jvm.MethodName)) ∈ lw_all := lw_g (lw_at lw_m6 26 rfl) rfl
theorem q1321 : (Jvm.Cond.instanceMethod ({ cls := "SecretBuyers$Brief", name := "bonus", desc := "(LSecretBuyers$Ask;LSecretBuyers$Visit;I)I" } : Jvm.MethodName)) ∈ lw_all := lw_g (lw_at lw_m6 28 rfl) rfl
theorem q1322 : (Jvm.Cond.selects "SecretBuyers$Brief" ({ cls := "SecretBuyers$Brief", name := "bonus", desc := "(LSecretBuyers$Ask;LSecretBuyers$Visit;I)I" } : Jvm.MethodName) ({ cls := "SecretBuyers$Brief", name := "bonus", desc := "(LSecretBuyers$Ask;LSecretBuyers$Visit;I)I" } : Jvm.MethodName)) ∈ lw_all := lw_g (lw_at lw_m6 29 rfl) rfl
theorem q1323 : (Jvm.Cond.code ({ cls := "SecretBuyers$Brief", name := "bonus", desc := "(LSecretBuyers$Ask;LSecretBuyers$Visit;I)I" } : Jvm.MethodName) prog_7_method_4_code (5 : Nat) (Option.some Jvm.ClassFile.FieldType.int)) ∈ lw_all := lw_g (lw_at lw_m6 30 rfl) rfl
theorem q1324 : (Jvm.Cond.methodLink "SecretBuyers$Brief" (85 : Nat) ({ cls := "SecretBuyers$Line", name := "bonus", desc := "()I" } : Jvm.MethodName)) ∈ lw_all := lw_g (lw_at lw_m6 31 rfl) rfl
theorem q2175 : (Jvm.Cond.castable "SecretBuyers$Brief" "java/lang/Object") ∈ lw_tbl := lw_at lw_m9 162 rfl
theorem in_X9 : ∀ w ∈ wsX90, w ∈ lw_all := lw_in wsX90 [627, 629, 631, 633, 635, 637] (by decide +kernel) (by decide +kernel)
