/-! SecretBuyersLaw -/
set_option maxRecDepth 100000
def RX0 : String := "SecretBuyersLaw"
abbrev cX0_look : ByteArray := method_3_code
def yX0_look : MethodName := ⟨RX0, "look", "(LSecretBuyers;II[J)I"⟩
def dkwX0_look_0 : List UInt8 := [45, 3, 42, 27, 28, 182, 0, 7, 133, 80, 167, 0, 7, 58, 4, 4, 172, 3, 172]
abbrev dktX0_look_0 : List UInt8 := dkwX0_look_0 ++ []
theorem dksX0_look_0 : cX0_look.data.toList.drop 0 = dktX0_look_0 := by decide +kernel
theorem dX0_look_0 : decode cX0_look 0 = .ok (.aload_n 3, 1) := dk_45 (dk_at dksX0_look_0 0 rfl rfl)
theorem dX0_look_1 : decode cX0_look 1 = .ok (.iconst 0, 1) := dk_3 (dk_at dksX0_look_0 1 rfl rfl)
theorem dX0_look_2 : decode cX0_look 2 = .ok (.aload_n 0, 1) := dk_42 (dk_at dksX0_look_0 2 rfl rfl)
theorem dX0_look_3 : decode cX0_look 3 = .ok (.iload_n 1, 1) := dk_27 (dk_at dksX0_look_0 3 rfl rfl)
theorem dX0_look_4 : decode cX0_look 4 = .ok (.iload_n 2, 1) := dk_28 (dk_at dksX0_look_0 4 rfl rfl)
theorem dX0_look_5 : decode cX0_look 5 = .ok (.invokevirtual 7, 3) := dk_182 0 7 (dk_at dksX0_look_0 5 rfl rfl)
theorem dX0_look_8 : decode cX0_look 8 = .ok (.i2l, 1) := dk_133 (dk_at dksX0_look_0 8 rfl rfl)
theorem dX0_look_9 : decode cX0_look 9 = .ok (.lastore, 1) := dk_80 (dk_at dksX0_look_0 9 rfl rfl)
theorem dX0_look_10 : decode cX0_look 10 = .ok (.goto 7, 3) := dk_167 0 7 (dk_at dksX0_look_0 10 rfl rfl)
theorem dX0_look_13 : decode cX0_look 13 = .ok (.astore 4, 2) := dk_58 4 (dk_at dksX0_look_0 13 rfl rfl)
theorem dX0_look_15 : decode cX0_look 15 = .ok (.iconst 1, 1) := dk_4 (dk_at dksX0_look_0 15 rfl rfl)
theorem dX0_look_16 : decode cX0_look 16 = .ok (.ireturn, 1) := dk_172 (dk_at dksX0_look_0 16 rfl rfl)
theorem dX0_look_17 : decode cX0_look 17 = .ok (.iconst 0, 1) := dk_3 (dk_at dksX0_look_0 17 rfl rfl)
theorem dX0_look_18 : decode cX0_look 18 = .ok (.ireturn, 1) := dk_172 (dk_at dksX0_look_0 18 rfl rfl)
abbrev cX0_fair : ByteArray := method_4_code
def yX0_fair : MethodName := ⟨RX0, "fair", "(LSecretBuyers;I[J)I"⟩
def dkwX0_fair_0 : List UInt8 := [44, 3, 42, 27, 182, 0, 15, 133, 80, 167, 0, 6, 78, 4, 172, 3, 172]
abbrev dktX0_fair_0 : List UInt8 := dkwX0_fair_0 ++ []
theorem dksX0_fair_0 : cX0_fair.data.toList.drop 0 = dktX0_fair_0 := by decide +kernel
theorem dX0_fair_0 : decode cX0_fair 0 = .ok (.aload_n 2, 1) := dk_44 (dk_at dksX0_fair_0 0 rfl rfl)
theorem dX0_fair_1 : decode cX0_fair 1 = .ok (.iconst 0, 1) := dk_3 (dk_at dksX0_fair_0 1 rfl rfl)
theorem dX0_fair_2 : decode cX0_fair 2 = .ok (.aload_n 0, 1) := dk_42 (dk_at dksX0_fair_0 2 rfl rfl)
theorem dX0_fair_3 : decode cX0_fair 3 = .ok (.iload_n 1, 1) := dk_27 (dk_at dksX0_fair_0 3 rfl rfl)
theorem dX0_fair_4 : decode cX0_fair 4 = .ok (.invokevirtual 15, 3) := dk_182 0 15 (dk_at dksX0_fair_0 4 rfl rfl)
theorem dX0_fair_7 : decode cX0_fair 7 = .ok (.i2l, 1) := dk_133 (dk_at dksX0_fair_0 7 rfl rfl)
theorem dX0_fair_8 : decode cX0_fair 8 = .ok (.lastore, 1) := dk_80 (dk_at dksX0_fair_0 8 rfl rfl)
theorem dX0_fair_9 : decode cX0_fair 9 = .ok (.goto 6, 3) := dk_167 0 6 (dk_at dksX0_fair_0 9 rfl rfl)
theorem dX0_fair_12 : decode cX0_fair 12 = .ok (.astore_n 3, 1) := dk_78 (dk_at dksX0_fair_0 12 rfl rfl)
theorem dX0_fair_13 : decode cX0_fair 13 = .ok (.iconst 1, 1) := dk_4 (dk_at dksX0_fair_0 13 rfl rfl)
theorem dX0_fair_14 : decode cX0_fair 14 = .ok (.ireturn, 1) := dk_172 (dk_at dksX0_fair_0 14 rfl rfl)
theorem dX0_fair_15 : decode cX0_fair 15 = .ok (.iconst 0, 1) := dk_3 (dk_at dksX0_fair_0 15 rfl rfl)
theorem dX0_fair_16 : decode cX0_fair 16 = .ok (.ireturn, 1) := dk_172 (dk_at dksX0_fair_0 16 rfl rfl)
abbrev cX0_lean : ByteArray := method_5_code
def yX0_lean : MethodName := ⟨RX0, "lean", "(LSecretBuyers;I[J)I"⟩
def dkwX0_lean_0 : List UInt8 := [44, 3, 42, 27, 182, 0, 19, 133, 80, 167, 0, 6, 78, 4, 172, 3, 172]
abbrev dktX0_lean_0 : List UInt8 := dkwX0_lean_0 ++ []
theorem dksX0_lean_0 : cX0_lean.data.toList.drop 0 = dktX0_lean_0 := by decide +kernel
theorem dX0_lean_0 : decode cX0_lean 0 = .ok (.aload_n 2, 1) := dk_44 (dk_at dksX0_lean_0 0 rfl rfl)
theorem dX0_lean_1 : decode cX0_lean 1 = .ok (.iconst 0, 1) := dk_3 (dk_at dksX0_lean_0 1 rfl rfl)
theorem dX0_lean_2 : decode cX0_lean 2 = .ok (.aload_n 0, 1) := dk_42 (dk_at dksX0_lean_0 2 rfl rfl)
theorem dX0_lean_3 : decode cX0_lean 3 = .ok (.iload_n 1, 1) := dk_27 (dk_at dksX0_lean_0 3 rfl rfl)
theorem dX0_lean_4 : decode cX0_lean 4 = .ok (.invokevirtual 19, 3) := dk_182 0 19 (dk_at dksX0_lean_0 4 rfl rfl)
theorem dX0_lean_7 : decode cX0_lean 7 = .ok (.i2l, 1) := dk_133 (dk_at dksX0_lean_0 7 rfl rfl)
theorem dX0_lean_8 : decode cX0_lean 8 = .ok (.lastore, 1) := dk_80 (dk_at dksX0_lean_0 8 rfl rfl)
theorem dX0_lean_9 : decode cX0_lean 9 = .ok (.goto 6, 3) := dk_167 0 6 (dk_at dksX0_lean_0 9 rfl rfl)
theorem dX0_lean_12 : decode cX0_lean 12 = .ok (.astore_n 3, 1) := dk_78 (dk_at dksX0_lean_0 12 rfl rfl)
theorem dX0_lean_13 : decode cX0_lean 13 = .ok (.iconst 1, 1) := dk_4 (dk_at dksX0_lean_0 13 rfl rfl)
theorem dX0_lean_14 : decode cX0_lean 14 = .ok (.ireturn, 1) := dk_172 (dk_at dksX0_lean_0 14 rfl rfl)
theorem dX0_lean_15 : decode cX0_lean 15 = .ok (.iconst 0, 1) := dk_3 (dk_at dksX0_lean_0 15 rfl rfl)
theorem dX0_lean_16 : decode cX0_lean 16 = .ok (.ireturn, 1) := dk_172 (dk_at dksX0_lean_0 16 rfl rfl)
abbrev cX0_mean : ByteArray := method_6_code
def yX0_mean : MethodName := ⟨RX0, "mean", "(LSecretBuyers;III[J)I"⟩
def dkwX0_mean_0 : List UInt8 := [25, 4, 3, 42, 27, 28, 29, 182, 0, 22, 133, 80, 167, 0, 7, 58, 5, 4, 172, 3, 172]
abbrev dktX0_mean_0 : List UInt8 := dkwX0_mean_0 ++ []
theorem dksX0_mean_0 : cX0_mean.data.toList.drop 0 = dktX0_mean_0 := by decide +kernel
theorem dX0_mean_0 : decode cX0_mean 0 = .ok (.aload 4, 2) := dk_25 4 (dk_at dksX0_mean_0 0 rfl rfl)
theorem dX0_mean_2 : decode cX0_mean 2 = .ok (.iconst 0, 1) := dk_3 (dk_at dksX0_mean_0 2 rfl rfl)
theorem dX0_mean_3 : decode cX0_mean 3 = .ok (.aload_n 0, 1) := dk_42 (dk_at dksX0_mean_0 3 rfl rfl)
theorem dX0_mean_4 : decode cX0_mean 4 = .ok (.iload_n 1, 1) := dk_27 (dk_at dksX0_mean_0 4 rfl rfl)
theorem dX0_mean_5 : decode cX0_mean 5 = .ok (.iload_n 2, 1) := dk_28 (dk_at dksX0_mean_0 5 rfl rfl)
theorem dX0_mean_6 : decode cX0_mean 6 = .ok (.iload_n 3, 1) := dk_29 (dk_at dksX0_mean_0 6 rfl rfl)
theorem dX0_mean_7 : decode cX0_mean 7 = .ok (.invokevirtual 22, 3) := dk_182 0 22 (dk_at dksX0_mean_0 7 rfl rfl)
theorem dX0_mean_10 : decode cX0_mean 10 = .ok (.i2l, 1) := dk_133 (dk_at dksX0_mean_0 10 rfl rfl)
theorem dX0_mean_11 : decode cX0_mean 11 = .ok (.lastore, 1) := dk_80 (dk_at dksX0_mean_0 11 rfl rfl)
theorem dX0_mean_12 : decode cX0_mean 12 = .ok (.goto 7, 3) := dk_167 0 7 (dk_at dksX0_mean_0 12 rfl rfl)
theorem dX0_mean_15 : decode cX0_mean 15 = .ok (.astore 5, 2) := dk_58 5 (dk_at dksX0_mean_0 15 rfl rfl)
theorem dX0_mean_17 : decode cX0_mean 17 = .ok (.iconst 1, 1) := dk_4 (dk_at dksX0_mean_0 17 rfl rfl)
theorem dX0_mean_18 : decode cX0_mean 18 = .ok (.ireturn, 1) := dk_172 (dk_at dksX0_mean_0 18 rfl rfl)
theorem dX0_mean_19 : decode cX0_mean 19 = .ok (.iconst 0, 1) := dk_3 (dk_at dksX0_mean_0 19 rfl rfl)
theorem dX0_mean_20 : decode cX0_mean 20 = .ok (.ireturn, 1) := dk_172 (dk_at dksX0_mean_0 20 rfl rfl)
theorem q93 : (Jvm.Cond.initialized "SecretBuyersLaw") ∈ lw_all := lw_g (lw_at lw_m1 0 rfl) rfl
theorem q134 : (Jvm.Cond.classLink "SecretBuyersLaw" (8 : Nat) "SecretBuyers") ∈ lw_all := lw_g (lw_at lw_m1 41 rfl) rfl
theorem q136 : (Jvm.Cond.methodLink "SecretBuyersLaw" (26 : Nat) ({ cls := "SecretBuyers", name := "<init>", desc := "()V" } : Jvm.MethodName)) ∈ lw_all := lw_g (lw_at lw_m1 43 rfl) rfl
theorem q322 : (Jvm.Cond.methodLink "SecretBuyersLaw" (30 : Nat) ({ cls := "SecretBuyers", name := "days", desc := "(I)I" } : Jvm.MethodName)) ∈ lw_all := lw_g (lw_at lw_m1 229 rfl) rfl
theorem q333 : (Jvm.Cond.methodLink "SecretBuyersLaw" (34 : Nat) ({ cls := "SecretBuyers", name := "view", desc := "(I)Z" } : Jvm.MethodName)) ∈ lw_all := lw_g (lw_at lw_m2 0 rfl) rfl
theorem q337 : (Jvm.Cond.methodLink "SecretBuyersLaw" (39 : Nat) ({ cls := "SecretBuyers", name := "shop", desc := "(IIIIIZ)I" } : Jvm.MethodName)) ∈ lw_all := lw_g (lw_at lw_m2 4 rfl) rfl
theorem q458 : (Jvm.Cond.methodLink "SecretBuyersLaw" (44 : Nat) ({ cls := "SecretBuyers", name := "buyer", desc := "(II)I" } : Jvm.MethodName)) ∈ lw_all := lw_g (lw_at lw_m2 125 rfl) rfl
theorem q462 : (Jvm.Cond.methodLink "SecretBuyersLaw" (48 : Nat) ({ cls := "SecretBuyers", name := "terms", desc := "(III)Z" } : Jvm.MethodName)) ∈ lw_all := lw_g (lw_at lw_m2 129 rfl) rfl
theorem q466 : (Jvm.Cond.methodLink "SecretBuyersLaw" (53 : Nat) ({ cls := "SecretBuyers", name := "rest", desc := "(II)Z" } : Jvm.MethodName)) ∈ lw_all := lw_g (lw_at lw_m2 133 rfl) rfl
theorem q470 : (Jvm.Cond.methodLink "SecretBuyersLaw" (58 : Nat) ({ cls := "SecretBuyers", name := "visit", desc := "(IIIIIII)I" } : Jvm.MethodName)) ∈ lw_all := lw_g (lw_at lw_m2 137 rfl) rfl
theorem q564 : (Jvm.Cond.methodLink "SecretBuyersLaw" (63 : Nat) ({ cls := "SecretBuyers", name := "appeal", desc := "(II)Z" } : Jvm.MethodName)) ∈ lw_all := lw_g (lw_at lw_m2 231 rfl) rfl
theorem q591 : (Jvm.Cond.methodLink "SecretBuyersLaw" (69 : Nat) ({ cls := "SecretBuyers", name := "feed", desc := "(JJJ)I" } : Jvm.MethodName)) ∈ lw_all := lw_g (lw_at lw_m3 18 rfl) rfl
theorem q595 : (Jvm.Cond.methodLink "SecretBuyersLaw" (74 : Nat) ({ cls := "SecretBuyers", name := "brief", desc := "(II)I" } : Jvm.MethodName)) ∈ lw_all := lw_g (lw_at lw_m3 22 rfl) rfl
theorem q1187 : (Jvm.Cond.methodLink "SecretBuyersLaw" (92 : Nat) ({ cls := "SecretBuyers", name := "fewest", desc := "(II)I" } : Jvm.MethodName)) ∈ lw_all := lw_g (lw_at lw_m5 134 rfl) rfl
theorem q1370 : (Jvm.Cond.methodLink "SecretBuyersLaw" (96 : Nat) ({ cls := "SecretBuyers", name := "set", desc := "(III)I" } : Jvm.MethodName)) ∈ lw_all := lw_g (lw_at lw_m6 77 rfl) rfl
theorem q1374 : (Jvm.Cond.methodLink "SecretBuyersLaw" (103 : Nat) ({ cls := "SecretBuyers", name := "meetings", desc := "(II)I" } : Jvm.MethodName)) ∈ lw_all := lw_g (lw_at lw_m6 81 rfl) rfl
theorem q1378 : (Jvm.Cond.methodLink "SecretBuyersLaw" (111 : Nat) ({ cls := "SecretBuyers", name := "doubt", desc := "(III)I" } : Jvm.MethodName)) ∈ lw_all := lw_g (lw_at lw_m6 85 rfl) rfl
theorem q1394 : (Jvm.Cond.methodLink "SecretBuyersLaw" (115 : Nat) ({ cls := "SecretBuyers", name := "apart", desc := "(IIII)I" } : Jvm.MethodName)) ∈ lw_all := lw_g (lw_at lw_m6 101 rfl) rfl
theorem q1399 : (Jvm.Cond.methodLink "SecretBuyersLaw" (120 : Nat) ({ cls := "SecretBuyers", name := "order", desc := "(IIII)I" } : Jvm.MethodName)) ∈ lw_all := lw_g (lw_at lw_m6 106 rfl) rfl
theorem q1409 : (Jvm.Cond.methodLink "SecretBuyersLaw" (124 : Nat) ({ cls := "SecretBuyers", name := "enough", desc := "(IIII)I" } : Jvm.MethodName)) ∈ lw_all := lw_g (lw_at lw_m6 116 rfl) rfl
theorem q1413 : (Jvm.Cond.methodLink "SecretBuyersLaw" (128 : Nat) ({ cls := "SecretBuyers", name := "may", desc := "(III)I" } : Jvm.MethodName)) ∈ lw_all := lw_g (lw_at lw_m6 120 rfl) rfl
theorem q1422 : (Jvm.Cond.methodLink "SecretBuyersLaw" (132 : Nat) ({ cls := "SecretBuyers", name := "given", desc := "(III)I" } : Jvm.MethodName)) ∈ lw_all := lw_g (lw_at lw_m6 129 rfl) rfl
theorem q1433 : (Jvm.Cond.methodLink "SecretBuyersLaw" (136 : Nat) ({ cls := "SecretBuyers", name := "drawn", desc := "(III)I" } : Jvm.MethodName)) ∈ lw_all := lw_g (lw_at lw_m6 140 rfl) rfl
theorem q1445 : (Jvm.Cond.methodLink "SecretBuyersLaw" (140 : Nat) ({ cls := "SecretBuyers", name := "sway", desc := "(II)I" } : Jvm.MethodName)) ∈ lw_all := lw_g (lw_at lw_m6 152 rfl) rfl
theorem q1449 : (Jvm.Cond.methodLink "SecretBuyersLaw" (144 : Nat) ({ cls := "SecretBuyers", name := "sum", desc := "(IIII)I" } : Jvm.MethodName)) ∈ lw_all := lw_g (lw_at lw_m6 156 rfl) rfl
theorem q1453 : (Jvm.Cond.methodLink "SecretBuyersLaw" (148 : Nat) ({ cls := "SecretBuyers", name := "count", desc := "(I)I" } : Jvm.MethodName)) ∈ lw_all := lw_g (lw_at lw_m6 160 rfl) rfl
theorem q1457 : (Jvm.Cond.methodLink "SecretBuyersLaw" (78 : Nat) ({ cls := "SecretBuyersLaw", name := "look", desc := "(LSecretBuyers;II[J)I" } : Jvm.MethodName)) ∈ lw_all := lw_g (lw_at lw_m6 164 rfl) rfl
theorem q1458 : (Jvm.Cond.static ({ cls := "SecretBuyersLaw", name := "look", desc := "(LSecretBuyers;II[J)I" } : Jvm.MethodName)) ∈ lw_all := lw_g (lw_at lw_m6 165 rfl) rfl
theorem q1459 : (Jvm.Cond.codeWith ({ cls := "SecretBuyersLaw", name := "look", desc := "(LSecretBuyers;II[J)I" } : Jvm.MethodName) method_3_code (5 : Nat) (Option.some Jvm.ClassFile.FieldType.int) [((0 : Nat), (10 : Nat), (13 : Nat), (13 : Nat))]) ∈ lw_all := lw_g (lw_at lw_m6 166 rfl) rfl
theorem q1460 : (Jvm.Cond.classLink "SecretBuyersLaw" (13 : Nat) "java/util/NoSuchElementException") ∈ lw_all := lw_g (lw_at lw_m6 167 rfl) rfl
theorem q1461 : (Jvm.Cond.methodLink "SecretBuyersLaw" (7 : Nat) ({ cls := "SecretBuyers", name := "look", desc := "(II)I" } : Jvm.MethodName)) ∈ lw_all := lw_g (lw_at lw_m6 168 rfl) rfl
theorem q1494 : (Jvm.Cond.methodLink "SecretBuyersLaw" (88 : Nat) ({ cls := "SecretBuyersLaw", name := "fair", desc := "(LSecretBuyers;I[J)I" } : Jvm.MethodName)) ∈ lw_all := lw_g (lw_at lw_m6 201 rfl) rfl
theorem q1495 : (Jvm.Cond.static ({ cls := "SecretBuyersLaw", name := "fair", desc := "(LSecretBuyers;I[J)I" } : Jvm.MethodName)) ∈ lw_all := lw_g (lw_at lw_m6 202 rfl) rfl
theorem q1496 : (Jvm.Cond.codeWith ({ cls := "SecretBuyersLaw", name := "fair", desc := "(LSecretBuyers;I[J)I" } : Jvm.MethodName) method_4_code (4 : Nat) (Option.some Jvm.ClassFile.FieldType.int) [((0 : Nat), (9 : Nat), (12 : Nat), (13 : Nat))]) ∈ lw_all := lw_g (lw_at lw_m6 203 rfl) rfl
theorem q1497 : (Jvm.Cond.methodLink "SecretBuyersLaw" (15 : Nat) ({ cls := "SecretBuyers", name := "fair", desc := "(I)I" } : Jvm.MethodName)) ∈ lw_all := lw_g (lw_at lw_m6 204 rfl) rfl
theorem q1501 : (Jvm.Cond.methodLink "SecretBuyersLaw" (100 : Nat) ({ cls := "SecretBuyersLaw", name := "lean", desc := "(LSecretBuyers;I[J)I" } : Jvm.MethodName)) ∈ lw_all := lw_g (lw_at lw_m6 208 rfl) rfl
theorem q1502 : (Jvm.Cond.static ({ cls := "SecretBuyersLaw", name := "lean", desc := "(LSecretBuyers;I[J)I" } : Jvm.MethodName)) ∈ lw_all := lw_g (lw_at lw_m6 209 rfl) rfl
theorem q1503 : (Jvm.Cond.codeWith ({ cls := "SecretBuyersLaw", name := "lean", desc := "(LSecretBuyers;I[J)I" } : Jvm.MethodName) method_5_code (4 : Nat) (Option.some Jvm.ClassFile.FieldType.int) [((0 : Nat), (9 : Nat), (12 : Nat), (13 : Nat))]) ∈ lw_all := lw_g (lw_at lw_m6 210 rfl) rfl
theorem q1504 : (Jvm.Cond.methodLink "SecretBuyersLaw" (19 : Nat) ({ cls := "SecretBuyers", name := "lean", desc := "(I)I" } : Jvm.MethodName)) ∈ lw_all := lw_g (lw_at lw_m6 211 rfl) rfl
theorem q1508 : (Jvm.Cond.methodLink "SecretBuyersLaw" (107 : Nat) ({ cls := "SecretBuyersLaw", name := "mean", desc := "(LSecretBuyers;III[J)I" } : Jvm.MethodName)) ∈ lw_all := lw_g (lw_at lw_m6 215 rfl) rfl
theorem q1509 : (Jvm.Cond.static ({ cls := "SecretBuyersLaw", name := "mean", desc := "(LSecretBuyers;III[J)I" } : Jvm.MethodName)) ∈ lw_all := lw_g (lw_at lw_m6 216 rfl) rfl
theorem q1510 : (Jvm.Cond.codeWith ({ cls := "SecretBuyersLaw", name := "mean", desc := "(LSecretBuyers;III[J)I" } : Jvm.MethodName) method_6_code (6 : Nat) (Option.some Jvm.ClassFile.FieldType.int) [((0 : Nat), (12 : Nat), (15 : Nat), (13 : Nat))]) ∈ lw_all := lw_g (lw_at lw_m6 217 rfl) rfl
theorem q1511 : (Jvm.Cond.methodLink "SecretBuyersLaw" (22 : Nat) ({ cls := "SecretBuyers", name := "mean", desc := "(III)I" } : Jvm.MethodName)) ∈ lw_all := lw_g (lw_at lw_m6 218 rfl) rfl
theorem q1515 : (Jvm.Cond.methodLink "SecretBuyersLaw" (84 : Nat) ({ cls := "SecretBuyersModel", name := "thrown", desc := "()I" } : Jvm.MethodName)) ∈ lw_all := lw_g (lw_at lw_m6 222 rfl) rfl
theorem q1519 : (Jvm.Cond.methodLink "SecretBuyersLaw" (73 : Nat) ({ cls := "SecretBuyersModel", name := "feed", desc := "(JJJ)I" } : Jvm.MethodName)) ∈ lw_all := lw_g (lw_at lw_m6 226 rfl) rfl
theorem q1528 : (Jvm.Cond.classLink "SecretBuyersLaw" (27 : Nat) "SecretBuyersModel") ∈ lw_all := lw_g (lw_at lw_m6 235 rfl) rfl
theorem q1529 : (Jvm.Cond.methodLink "SecretBuyersLaw" (29 : Nat) ({ cls := "SecretBuyersModel", name := "<init>", desc := "()V" } : Jvm.MethodName)) ∈ lw_all := lw_g (lw_at lw_m6 236 rfl) rfl
theorem q1794 : (Jvm.Cond.methodLink "SecretBuyersLaw" (77 : Nat) ({ cls := "SecretBuyersModel", name := "brief", desc := "(II)I" } : Jvm.MethodName)) ∈ lw_all := lw_g (lw_at lw_m8 21 rfl) rfl
theorem q1897 : (Jvm.Cond.methodLink "SecretBuyersLaw" (33 : Nat) ({ cls := "SecretBuyersModel", name := "days", desc := "(I)I" } : Jvm.MethodName)) ∈ lw_all := lw_g (lw_at lw_m8 124 rfl) rfl
theorem q1904 : (Jvm.Cond.methodLink "SecretBuyersLaw" (38 : Nat) ({ cls := "SecretBuyersModel", name := "view", desc := "(I)Z" } : Jvm.MethodName)) ∈ lw_all := lw_g (lw_at lw_m8 131 rfl) rfl
theorem q1908 : (Jvm.Cond.methodLink "SecretBuyersLaw" (43 : Nat) ({ cls := "SecretBuyersModel", name := "shop", desc := "(IIIIIZ)I" } : Jvm.MethodName)) ∈ lw_all := lw_g (lw_at lw_m8 135 rfl) rfl
theorem q1915 : (Jvm.Cond.methodLink "SecretBuyersLaw" (47 : Nat) ({ cls := "SecretBuyersModel", name := "buyer", desc := "(II)I" } : Jvm.MethodName)) ∈ lw_all := lw_g (lw_at lw_m8 142 rfl) rfl
theorem q1919 : (Jvm.Cond.methodLink "SecretBuyersLaw" (52 : Nat) ({ cls := "SecretBuyersModel", name := "terms", desc := "(III)Z" } : Jvm.MethodName)) ∈ lw_all := lw_g (lw_at lw_m8 146 rfl) rfl
theorem q1923 : (Jvm.Cond.methodLink "SecretBuyersLaw" (57 : Nat) ({ cls := "SecretBuyersModel", name := "rest", desc := "(II)Z" } : Jvm.MethodName)) ∈ lw_all := lw_g (lw_at lw_m8 150 rfl) rfl
theorem q1927 : (Jvm.Cond.methodLink "SecretBuyersLaw" (62 : Nat) ({ cls := "SecretBuyersModel", name := "visit", desc := "(IIIIIII)I" } : Jvm.MethodName)) ∈ lw_all := lw_g (lw_at lw_m8 154 rfl) rfl
theorem q1943 : (Jvm.Cond.methodLink "SecretBuyersLaw" (66 : Nat) ({ cls := "SecretBuyersModel", name := "appeal", desc := "(II)Z" } : Jvm.MethodName)) ∈ lw_all := lw_g (lw_at lw_m8 170 rfl) rfl
theorem q1947 : (Jvm.Cond.methodLink "SecretBuyersLaw" (83 : Nat) ({ cls := "SecretBuyersModel", name := "look", desc := "(II)I" } : Jvm.MethodName)) ∈ lw_all := lw_g (lw_at lw_m8 174 rfl) rfl
theorem q2023 : (Jvm.Cond.methodLink "SecretBuyersLaw" (95 : Nat) ({ cls := "SecretBuyersModel", name := "fewest", desc := "(II)I" } : Jvm.MethodName)) ∈ lw_all := lw_g (lw_at lw_m9 10 rfl) rfl
theorem q2030 : (Jvm.Cond.methodLink "SecretBuyersLaw" (99 : Nat) ({ cls := "SecretBuyersModel", name := "set", desc := "(III)I" } : Jvm.MethodName)) ∈ lw_all := lw_g (lw_at lw_m9 17 rfl) rfl
theorem q2034 : (Jvm.Cond.methodLink "SecretBuyersLaw" (91 : Nat) ({ cls := "SecretBuyersModel", name := "fair", desc := "(I)I" } : Jvm.MethodName)) ∈ lw_all := lw_g (lw_at lw_m9 21 rfl) rfl
theorem q2050 : (Jvm.Cond.methodLink "SecretBuyersLaw" (102 : Nat) ({ cls := "SecretBuyersModel", name := "lean", desc := "(I)I" } : Jvm.MethodName)) ∈ lw_all := lw_g (lw_at lw_m9 37 rfl) rfl
theorem q2054 : (Jvm.Cond.methodLink "SecretBuyersLaw" (106 : Nat) ({ cls := "SecretBuyersModel", name := "meetings", desc := "(II)I" } : Jvm.MethodName)) ∈ lw_all := lw_g (lw_at lw_m9 41 rfl) rfl
theorem q2058 : (Jvm.Cond.methodLink "SecretBuyersLaw" (110 : Nat) ({ cls := "SecretBuyersModel", name := "mean", desc := "(III)I" } : Jvm.MethodName)) ∈ lw_all := lw_g (lw_at lw_m9 45 rfl) rfl
theorem q2073 : (Jvm.Cond.methodLink "SecretBuyersLaw" (114 : Nat) ({ cls := "SecretBuyersModel", name := "doubt", desc := "(III)I" } : Jvm.MethodName)) ∈ lw_all := lw_g (lw_at lw_m9 60 rfl) rfl
theorem q2081 : (Jvm.Cond.methodLink "SecretBuyersLaw" (119 : Nat) ({ cls := "SecretBuyersModel", name := "apart", desc := "(IIII)I" } : Jvm.MethodName)) ∈ lw_all := lw_g (lw_at lw_m9 68 rfl) rfl
theorem q2093 : (Jvm.Cond.methodLink "SecretBuyersLaw" (123 : Nat) ({ cls := "SecretBuyersModel", name := "order", desc := "(IIII)I" } : Jvm.MethodName)) ∈ lw_all := lw_g (lw_at lw_m9 80 rfl) rfl
theorem q2097 : (Jvm.Cond.methodLink "SecretBuyersLaw" (127 : Nat) ({ cls := "SecretBuyersModel", name := "enough", desc := "(IIII)I" } : Jvm.MethodName)) ∈ lw_all := lw_g (lw_at lw_m9 84 rfl) rfl
theorem q2101 : (Jvm.Cond.methodLink "SecretBuyersLaw" (131 : Nat) ({ cls := "SecretBuyersModel", name := "may", desc := "(III)I" } : Jvm.MethodName)) ∈ lw_all := lw_g (lw_at lw_m9 88 rfl) rfl
theorem q2109 : (Jvm.Cond.methodLink "SecretBuyersLaw" (135 : Nat) ({ cls := "SecretBuyersModel", name := "given", desc := "(III)I" } : Jvm.MethodName)) ∈ lw_all := lw_g (lw_at lw_m9 96 rfl) rfl
theorem q2126 : (Jvm.Cond.methodLink "SecretBuyersLaw" (139 : Nat) ({ cls := "SecretBuyersModel", name := "drawn", desc := "(III)I" } : Jvm.MethodName)) ∈ lw_all := lw_g (lw_at lw_m9 113 rfl) rfl
theorem q2134 : (Jvm.Cond.methodLink "SecretBuyersLaw" (143 : Nat) ({ cls := "SecretBuyersModel", name := "sway", desc := "(II)I" } : Jvm.MethodName)) ∈ lw_all := lw_g (lw_at lw_m9 121 rfl) rfl
theorem q2138 : (Jvm.Cond.methodLink "SecretBuyersLaw" (147 : Nat) ({ cls := "SecretBuyersModel", name := "sum", desc := "(IIII)I" } : Jvm.MethodName)) ∈ lw_all := lw_g (lw_at lw_m9 125 rfl) rfl
theorem q2142 : (Jvm.Cond.methodLink "SecretBuyersLaw" (151 : Nat) ({ cls := "SecretBuyersModel", name := "count", desc := "(I)I" } : Jvm.MethodName)) ∈ lw_all := lw_g (lw_at lw_m9 129 rfl) rfl
theorem q2146 : (Jvm.Cond.constantLong "SecretBuyersLaw" (67 : Nat) (4294967295 : Int64)) ∈ lw_all := lw_g (lw_at lw_m9 133 rfl) rfl
/-! the law's own entry -/
set_option maxRecDepth 100000
abbrev cL_law : ByteArray := code
def dkwL_law_65 : List UInt8 := [42, 21, 4, 4, 96, 46, 182, 0, 151, 159, 0, 5, 3, 172, 132, 4, 8, 167, 249, 165, 4, 172]
abbrev dktL_law_65 : List UInt8 := dkwL_law_65 ++ []
def dkwL_law_64 : List UInt8 := [21, 4, 7, 96, 46, 182, 0, 147, 159, 0, 30, 3, 172, 43, 42, 21, 4, 4, 96, 46, 182, 0, 148, 44]
abbrev dktL_law_64 : List UInt8 := dkwL_law_64 ++ dktL_law_65
def dkwL_law_63 : List UInt8 := [46, 182, 0, 144, 44, 42, 21, 4, 4, 96, 46, 42, 21, 4, 5, 96, 46, 42, 21, 4, 6, 96, 46, 42]
abbrev dktL_law_63 : List UInt8 := dkwL_law_63 ++ dktL_law_64
def dkwL_law_62 : List UInt8 := [43, 42, 21, 4, 4, 96, 46, 42, 21, 4, 5, 96, 46, 42, 21, 4, 6, 96, 46, 42, 21, 4, 7, 96]
abbrev dktL_law_62 : List UInt8 := dkwL_law_62 ++ dktL_law_63
def dkwL_law_61 : List UInt8 := [182, 0, 140, 44, 42, 21, 4, 4, 96, 46, 42, 21, 4, 5, 96, 46, 182, 0, 143, 159, 0, 91, 3, 172]
abbrev dktL_law_61 : List UInt8 := dkwL_law_61 ++ dktL_law_62
def dkwL_law_60 : List UInt8 := [6, 96, 46, 182, 0, 139, 159, 0, 128, 3, 172, 43, 42, 21, 4, 4, 96, 46, 42, 21, 4, 5, 96, 46]
abbrev dktL_law_60 : List UInt8 := dkwL_law_60 ++ dktL_law_61
def dkwL_law_59 : List UInt8 := [21, 4, 6, 96, 46, 182, 0, 136, 44, 42, 21, 4, 4, 96, 46, 42, 21, 4, 5, 96, 46, 42, 21, 4]
abbrev dktL_law_59 : List UInt8 := dkwL_law_59 ++ dktL_law_60
def dkwL_law_58 : List UInt8 := [46, 182, 0, 135, 159, 0, 177, 3, 172, 43, 42, 21, 4, 4, 96, 46, 42, 21, 4, 5, 96, 46, 42]
abbrev dktL_law_58 : List UInt8 := dkwL_law_58 ++ dktL_law_59
def dkwL_law_57 : List UInt8 := [6, 96, 46, 182, 0, 132, 44, 42, 21, 4, 4, 96, 46, 42, 21, 4, 5, 96, 46, 42, 21, 4, 6, 96]
abbrev dktL_law_57 : List UInt8 := dkwL_law_57 ++ dktL_law_58
def dkwL_law_56 : List UInt8 := [182, 0, 131, 159, 0, 226, 3, 172, 43, 42, 21, 4, 4, 96, 46, 42, 21, 4, 5, 96, 46, 42, 21, 4]
abbrev dktL_law_56 : List UInt8 := dkwL_law_56 ++ dktL_law_57
def dkwL_law_55 : List UInt8 := [182, 0, 128, 44, 42, 21, 4, 4, 96, 46, 42, 21, 4, 5, 96, 46, 42, 21, 4, 6, 96, 46]
abbrev dktL_law_55 : List UInt8 := dkwL_law_55 ++ dktL_law_56
def dkwL_law_54 : List UInt8 := [159, 1, 19, 3, 172, 43, 42, 21, 4, 4, 96, 46, 42, 21, 4, 5, 96, 46, 42, 21, 4, 6, 96, 46]
abbrev dktL_law_54 : List UInt8 := dkwL_law_54 ++ dktL_law_55
def dkwL_law_53 : List UInt8 := [46, 42, 21, 4, 5, 96, 46, 42, 21, 4, 6, 96, 46, 42, 21, 4, 7, 96, 46, 182, 0, 127]
abbrev dktL_law_53 : List UInt8 := dkwL_law_53 ++ dktL_law_54
def dkwL_law_52 : List UInt8 := [5, 96, 46, 42, 21, 4, 6, 96, 46, 42, 21, 4, 7, 96, 46, 182, 0, 124, 44, 42, 21, 4, 4, 96]
abbrev dktL_law_52 : List UInt8 := dkwL_law_52 ++ dktL_law_53
def dkwL_law_51 : List UInt8 := [42, 21, 4, 7, 96, 46, 182, 0, 123, 159, 1, 80, 3, 172, 43, 42, 21, 4, 4, 96, 46, 42, 21, 4]
abbrev dktL_law_51 : List UInt8 := dkwL_law_51 ++ dktL_law_52
def dkwL_law_50 : List UInt8 := [96, 46, 182, 0, 120, 44, 42, 21, 4, 4, 96, 46, 42, 21, 4, 5, 96, 46, 42, 21, 4, 6, 96, 46]
abbrev dktL_law_50 : List UInt8 := dkwL_law_50 ++ dktL_law_51
def dkwL_law_49 : List UInt8 := [172, 43, 42, 21, 4, 4, 96, 46, 42, 21, 4, 5, 96, 46, 42, 21, 4, 6, 96, 46, 42, 21, 4, 7]
abbrev dktL_law_49 : List UInt8 := dkwL_law_49 ++ dktL_law_50
def dkwL_law_48 : List UInt8 := [21, 4, 5, 96, 46, 42, 21, 4, 6, 96, 46, 42, 21, 4, 7, 96, 46, 182, 0, 119, 159, 1, 141, 3]
abbrev dktL_law_48 : List UInt8 := dkwL_law_48 ++ dktL_law_49
def dkwL_law_47 : List UInt8 := [42, 21, 4, 6, 96, 46, 42, 21, 4, 7, 96, 46, 182, 0, 115, 44, 42, 21, 4, 4, 96, 46, 42]
abbrev dktL_law_47 : List UInt8 := dkwL_law_47 ++ dktL_law_48
def dkwL_law_46 : List UInt8 := [6, 96, 46, 182, 0, 114, 159, 1, 202, 3, 172, 43, 42, 21, 4, 4, 96, 46, 42, 21, 4, 5, 96, 46]
abbrev dktL_law_46 : List UInt8 := dkwL_law_46 ++ dktL_law_47
def dkwL_law_45 : List UInt8 := [21, 4, 6, 96, 46, 182, 0, 111, 44, 42, 21, 4, 4, 96, 46, 42, 21, 4, 5, 96, 46, 42, 21, 4]
abbrev dktL_law_45 : List UInt8 := dkwL_law_45 ++ dktL_law_46
def dkwL_law_44 : List UInt8 := [148, 153, 0, 5, 3, 172, 167, 1, 249, 43, 42, 21, 4, 4, 96, 46, 42, 21, 4, 5, 96, 46, 42]
abbrev dktL_law_44 : List UInt8 := dkwL_law_44 ++ dktL_law_45
def dkwL_law_43 : List UInt8 := [54, 6, 44, 182, 0, 84, 21, 5, 159, 0, 5, 3, 172, 21, 5, 154, 0, 15, 45, 3, 47, 21, 6, 133]
abbrev dktL_law_43 : List UInt8 := dkwL_law_43 ++ dktL_law_44
def dkwL_law_42 : List UInt8 := [54, 5, 44, 42, 21, 4, 4, 96, 46, 42, 21, 4, 5, 96, 46, 42, 21, 4, 6, 96, 46, 182, 0, 110]
abbrev dktL_law_42 : List UInt8 := dkwL_law_42 ++ dktL_law_43
def dkwL_law_41 : List UInt8 := [172, 43, 42, 21, 4, 4, 96, 46, 42, 21, 4, 5, 96, 46, 42, 21, 4, 6, 96, 46, 45, 184, 0, 107]
abbrev dktL_law_41 : List UInt8 := dkwL_law_41 ++ dktL_law_42
def dkwL_law_40 : List UInt8 := [46, 182, 0, 103, 44, 42, 21, 4, 4, 96, 46, 42, 21, 4, 5, 96, 46, 182, 0, 106, 159, 2, 75, 3]
abbrev dktL_law_40 : List UInt8 := dkwL_law_40 ++ dktL_law_41
def dkwL_law_39 : List UInt8 := [21, 6, 133, 148, 153, 0, 5, 3, 172, 167, 2, 110, 43, 42, 21, 4, 4, 96, 46, 42, 21, 4, 5, 96]
abbrev dktL_law_39 : List UInt8 := dkwL_law_39 ++ dktL_law_40
def dkwL_law_38 : List UInt8 := [182, 0, 102, 54, 6, 44, 182, 0, 84, 21, 5, 159, 0, 5, 3, 172, 21, 5, 154, 0, 15, 45, 3, 47]
abbrev dktL_law_38 : List UInt8 := dkwL_law_38 ++ dktL_law_39
def dkwL_law_37 : List UInt8 := [3, 172, 43, 42, 21, 4, 4, 96, 46, 45, 184, 0, 100, 54, 5, 44, 42, 21, 4, 4, 96, 46]
abbrev dktL_law_37 : List UInt8 := dkwL_law_37 ++ dktL_law_38
def dkwL_law_36 : List UInt8 := [42, 21, 4, 4, 96, 46, 42, 21, 4, 5, 96, 46, 42, 21, 4, 6, 96, 46, 182, 0, 99, 159, 2, 168]
abbrev dktL_law_36 : List UInt8 := dkwL_law_36 ++ dktL_law_37
def dkwL_law_35 : List UInt8 := [172, 43, 42, 21, 4, 4, 96, 46, 42, 21, 4, 5, 96, 46, 42, 21, 4, 6, 96, 46, 182, 0, 96, 44]
abbrev dktL_law_35 : List UInt8 := dkwL_law_35 ++ dktL_law_36
def dkwL_law_34 : List UInt8 := [46, 182, 0, 92, 44, 42, 21, 4, 4, 96, 46, 42, 21, 4, 5, 96, 46, 182, 0, 95, 159, 2, 217, 3]
abbrev dktL_law_34 : List UInt8 := dkwL_law_34 ++ dktL_law_35
def dkwL_law_33 : List UInt8 := [21, 6, 133, 148, 153, 0, 5, 3, 172, 167, 2, 252, 43, 42, 21, 4, 4, 96, 46, 42, 21, 4, 5, 96]
abbrev dktL_law_33 : List UInt8 := dkwL_law_33 ++ dktL_law_34
def dkwL_law_32 : List UInt8 := [182, 0, 91, 54, 6, 44, 182, 0, 84, 21, 5, 159, 0, 5, 3, 172, 21, 5, 154, 0, 15, 45, 3, 47]
abbrev dktL_law_32 : List UInt8 := dkwL_law_32 ++ dktL_law_33
def dkwL_law_31 : List UInt8 := [167, 3, 52, 43, 42, 21, 4, 4, 96, 46, 45, 184, 0, 88, 54, 5, 44, 42, 21, 4, 4, 96, 46]
abbrev dktL_law_31 : List UInt8 := dkwL_law_31 ++ dktL_law_32
def dkwL_law_30 : List UInt8 := [159, 0, 5, 3, 172, 21, 5, 154, 0, 15, 45, 3, 47, 21, 6, 133, 148, 153, 0, 5, 3, 172]
abbrev dktL_law_30 : List UInt8 := dkwL_law_30 ++ dktL_law_31
def dkwL_law_29 : List UInt8 := [44, 42, 21, 4, 4, 96, 46, 42, 21, 4, 5, 96, 46, 182, 0, 83, 54, 6, 44, 182, 0, 84, 21, 5]
abbrev dktL_law_29 : List UInt8 := dkwL_law_29 ++ dktL_law_30
def dkwL_law_28 : List UInt8 := [159, 3, 122, 3, 172, 43, 42, 21, 4, 4, 96, 46, 42, 21, 4, 5, 96, 46, 45, 184, 0, 78, 54, 5]
abbrev dktL_law_28 : List UInt8 := dkwL_law_28 ++ dktL_law_29
def dkwL_law_27 : List UInt8 := [21, 4, 5, 96, 46, 182, 0, 74, 44, 42, 21, 4, 4, 96, 46, 42, 21, 4, 5, 96, 46, 182, 0, 77]
abbrev dktL_law_27 : List UInt8 := dkwL_law_27 ++ dktL_law_28
def dkwL_law_26 : List UInt8 := [96, 46, 133, 20, 0, 67, 127, 129, 182, 0, 73, 159, 3, 159, 3, 172, 43, 42, 21, 4, 4, 96, 46, 42]
abbrev dktL_law_26 : List UInt8 := dkwL_law_26 ++ dktL_law_27
def dkwL_law_25 : List UInt8 := [7, 96, 46, 133, 20, 0, 67, 127, 129, 42, 21, 4, 8, 96, 46, 133, 16, 32, 121, 42, 21, 4, 16, 6]
abbrev dktL_law_25 : List UInt8 := dkwL_law_25 ++ dktL_law_26
def dkwL_law_24 : List UInt8 := [21, 4, 5, 96, 46, 133, 20, 0, 67, 127, 129, 42, 21, 4, 6, 96, 46, 133, 16, 32, 121, 42, 21, 4]
abbrev dktL_law_24 : List UInt8 := dkwL_law_24 ++ dktL_law_25
def dkwL_law_23 : List UInt8 := [96, 46, 133, 20, 0, 67, 127, 129, 182, 0, 69, 44, 42, 21, 4, 4, 96, 46, 133, 16, 32, 121, 42]
abbrev dktL_law_23 : List UInt8 := dkwL_law_23 ++ dktL_law_24
def dkwL_law_22 : List UInt8 := [7, 96, 46, 133, 20, 0, 67, 127, 129, 42, 21, 4, 8, 96, 46, 133, 16, 32, 121, 42, 21, 4, 16, 6]
abbrev dktL_law_22 : List UInt8 := dkwL_law_22 ++ dktL_law_23
def dkwL_law_21 : List UInt8 := [21, 4, 5, 96, 46, 133, 20, 0, 67, 127, 129, 42, 21, 4, 6, 96, 46, 133, 16, 32, 121, 42, 21, 4]
abbrev dktL_law_21 : List UInt8 := dkwL_law_21 ++ dktL_law_22
def dkwL_law_20 : List UInt8 := [5, 96, 46, 182, 0, 66, 159, 4, 50, 3, 172, 43, 42, 21, 4, 4, 96, 46, 133, 16, 32, 121, 42]
abbrev dktL_law_20 : List UInt8 := dkwL_law_20 ++ dktL_law_21
def dkwL_law_19 : List UInt8 := [21, 4, 4, 96, 46, 42, 21, 4, 5, 96, 46, 182, 0, 63, 44, 42, 21, 4, 4, 96, 46, 42, 21, 4]
abbrev dktL_law_19 : List UInt8 := dkwL_law_19 ++ dktL_law_20
def dkwL_law_18 : List UInt8 := [21, 4, 16, 6, 96, 46, 42, 21, 4, 16, 7, 96, 46, 182, 0, 62, 159, 4, 87, 3, 172, 43, 42]
abbrev dktL_law_18 : List UInt8 := dkwL_law_18 ++ dktL_law_19
def dkwL_law_17 : List UInt8 := [21, 4, 5, 96, 46, 42, 21, 4, 6, 96, 46, 42, 21, 4, 7, 96, 46, 42, 21, 4, 8, 96, 46, 42]
abbrev dktL_law_17 : List UInt8 := dkwL_law_17 ++ dktL_law_18
def dkwL_law_16 : List UInt8 := [21, 4, 16, 6, 96, 46, 42, 21, 4, 16, 7, 96, 46, 182, 0, 58, 44, 42, 21, 4, 4, 96, 46, 42]
abbrev dktL_law_16 : List UInt8 := dkwL_law_16 ++ dktL_law_17
def dkwL_law_15 : List UInt8 := [21, 4, 5, 96, 46, 42, 21, 4, 6, 96, 46, 42, 21, 4, 7, 96, 46, 42, 21, 4, 8, 96, 46, 42]
abbrev dktL_law_15 : List UInt8 := dkwL_law_15 ++ dktL_law_16
def dkwL_law_14 : List UInt8 := [46, 42, 21, 4, 5, 96, 46, 182, 0, 57, 159, 4, 188, 3, 172, 43, 42, 21, 4, 4, 96, 46, 42]
abbrev dktL_law_14 : List UInt8 := dkwL_law_14 ++ dktL_law_15
def dkwL_law_13 : List UInt8 := [3, 172, 43, 42, 21, 4, 4, 96, 46, 42, 21, 4, 5, 96, 46, 182, 0, 53, 44, 42, 21, 4, 4, 96]
abbrev dktL_law_13 : List UInt8 := dkwL_law_13 ++ dktL_law_14
def dkwL_law_12 : List UInt8 := [42, 21, 4, 4, 96, 46, 42, 21, 4, 5, 96, 46, 42, 21, 4, 6, 96, 46, 182, 0, 52, 159, 4, 225]
abbrev dktL_law_12 : List UInt8 := dkwL_law_12 ++ dktL_law_13
def dkwL_law_11 : List UInt8 := [172, 43, 42, 21, 4, 4, 96, 46, 42, 21, 4, 5, 96, 46, 42, 21, 4, 6, 96, 46, 182, 0, 48, 44]
abbrev dktL_law_11 : List UInt8 := dkwL_law_11 ++ dktL_law_12
def dkwL_law_10 : List UInt8 := [46, 182, 0, 44, 44, 42, 21, 4, 4, 96, 46, 42, 21, 4, 5, 96, 46, 182, 0, 47, 159, 5, 18, 3]
abbrev dktL_law_10 : List UInt8 := dkwL_law_10 ++ dktL_law_11
def dkwL_law_9 : List UInt8 := [167, 0, 4, 3, 182, 0, 43, 159, 5, 55, 3, 172, 43, 42, 21, 4, 4, 96, 46, 42, 21, 4, 5, 96]
abbrev dktL_law_9 : List UInt8 := dkwL_law_9 ++ dktL_law_10
def dkwL_law_8 : List UInt8 := [21, 4, 7, 96, 46, 42, 21, 4, 8, 96, 46, 42, 21, 4, 16, 6, 96, 46, 153, 0, 7, 4]
abbrev dktL_law_8 : List UInt8 := dkwL_law_8 ++ dktL_law_9
def dkwL_law_7 : List UInt8 := [182, 0, 39, 44, 42, 21, 4, 4, 96, 46, 42, 21, 4, 5, 96, 46, 42, 21, 4, 6, 96, 46, 42]
abbrev dktL_law_7 : List UInt8 := dkwL_law_7 ++ dktL_law_8
def dkwL_law_6 : List UInt8 := [7, 96, 46, 42, 21, 4, 8, 96, 46, 42, 21, 4, 16, 6, 96, 46, 153, 0, 7, 4, 167, 0, 4, 3]
abbrev dktL_law_6 : List UInt8 := dkwL_law_6 ++ dktL_law_7
def dkwL_law_5 : List UInt8 := [3, 172, 43, 42, 21, 4, 4, 96, 46, 42, 21, 4, 5, 96, 46, 42, 21, 4, 6, 96, 46, 42, 21, 4]
abbrev dktL_law_5 : List UInt8 := dkwL_law_5 ++ dktL_law_6
def dkwL_law_4 : List UInt8 := [172, 43, 42, 21, 4, 4, 96, 46, 182, 0, 34, 44, 42, 21, 4, 4, 96, 46, 182, 0, 38, 159, 5, 158]
abbrev dktL_law_4 : List UInt8 := dkwL_law_4 ++ dktL_law_5
def dkwL_law_3 : List UInt8 := [43, 42, 21, 4, 4, 96, 46, 182, 0, 30, 44, 42, 21, 4, 4, 96, 46, 182, 0, 33, 159, 5, 183, 3]
abbrev dktL_law_3 : List UInt8 := dkwL_law_3 ++ dktL_law_4
def dkwL_law_2 : List UInt8 := [170, 0, 0, 0, 0, 0, 6, 71, 0, 0, 0, 0, 0, 0, 0, 26, 0, 0, 0, 124, 0, 0, 0, 149, 0, 0, 0, 174, 0, 0, 1, 21, 0, 0, 1, 58, 0, 0, 1, 107, 0, 0, 1, 144, 0, 0, 1, 245, 0, 0, 2, 26, 0, 0, 2, 173, 0, 0, 2, 210, 0, 0, 3, 22, 0, 0, 3, 78, 0, 0, 3, 115, 0, 0, 3, 164, 0, 0, 3, 220, 0, 0, 4, 1, 0, 0, 4, 81, 0, 0, 4, 130, 0, 0, 4, 191, 0, 0, 4, 252, 0, 0, 5, 57, 0, 0, 5, 106, 0, 0, 5, 155, 0, 0, 5, 204, 0, 0, 5, 241, 0, 0, 6, 46]
abbrev dktL_law_2 : List UInt8 := dkwL_law_2 ++ dktL_law_3
def dkwL_law_1 : List UInt8 := [21, 4, 42, 190, 16, 8, 100, 163, 6, 87, 42, 21, 4, 46, 16, 31, 126]
abbrev dktL_law_1 : List UInt8 := dkwL_law_1 ++ dktL_law_2
def dkwL_law_0 : List UInt8 := [187, 0, 8, 89, 183, 0, 26, 76, 187, 0, 27, 89, 183, 0, 29, 77, 4, 188, 11, 78, 3, 54, 4]
abbrev dktL_law_0 : List UInt8 := dkwL_law_0 ++ dktL_law_1
theorem dksL_law_0 : cL_law.data.toList.drop 0 = dktL_law_0 := by decide +kernel
theorem dksL_law_1 : cL_law.data.toList.drop 23 = dktL_law_1 := dk_seg dksL_law_0 23 rfl rfl
theorem dksL_law_2 : cL_law.data.toList.drop 40 = dktL_law_2 := dk_seg dksL_law_1 17 rfl rfl
theorem dksL_law_3 : cL_law.data.toList.drop 164 = dktL_law_3 := dk_seg dksL_law_2 124 rfl rfl
theorem dksL_law_4 : cL_law.data.toList.drop 188 = dktL_law_4 := dk_seg dksL_law_3 24 rfl rfl
theorem dksL_law_5 : cL_law.data.toList.drop 212 = dktL_law_5 := dk_seg dksL_law_4 24 rfl rfl
theorem dksL_law_6 : cL_law.data.toList.drop 236 = dktL_law_6 := dk_seg dksL_law_5 24 rfl rfl
theorem dksL_law_7 : cL_law.data.toList.drop 260 = dktL_law_7 := dk_seg dksL_law_6 24 rfl rfl
theorem dksL_law_8 : cL_law.data.toList.drop 283 = dktL_law_8 := dk_seg dksL_law_7 23 rfl rfl
theorem dksL_law_9 : cL_law.data.toList.drop 305 = dktL_law_9 := dk_seg dksL_law_8 22 rfl rfl
theorem dksL_law_10 : cL_law.data.toList.drop 329 = dktL_law_10 := dk_seg dksL_law_9 24 rfl rfl
theorem dksL_law_11 : cL_law.data.toList.drop 353 = dktL_law_11 := dk_seg dksL_law_10 24 rfl rfl
theorem dksL_law_12 : cL_law.data.toList.drop 377 = dktL_law_12 := dk_seg dksL_law_11 24 rfl rfl
theorem dksL_law_13 : cL_law.data.toList.drop 401 = dktL_law_13 := dk_seg dksL_law_12 24 rfl rfl
theorem dksL_law_14 : cL_law.data.toList.drop 425 = dktL_law_14 := dk_seg dksL_law_13 24 rfl rfl
theorem dksL_law_15 : cL_law.data.toList.drop 448 = dktL_law_15 := dk_seg dksL_law_14 23 rfl rfl
theorem dksL_law_16 : cL_law.data.toList.drop 472 = dktL_law_16 := dk_seg dksL_law_15 24 rfl rfl
theorem dksL_law_17 : cL_law.data.toList.drop 496 = dktL_law_17 := dk_seg dksL_law_16 24 rfl rfl
theorem dksL_law_18 : cL_law.data.toList.drop 520 = dktL_law_18 := dk_seg dksL_law_17 24 rfl rfl
theorem dksL_law_19 : cL_law.data.toList.drop 543 = dktL_law_19 := dk_seg dksL_law_18 23 rfl rfl
theorem dksL_law_20 : cL_law.data.toList.drop 567 = dktL_law_20 := dk_seg dksL_law_19 24 rfl rfl
theorem dksL_law_21 : cL_law.data.toList.drop 590 = dktL_law_21 := dk_seg dksL_law_20 23 rfl rfl
theorem dksL_law_22 : cL_law.data.toList.drop 614 = dktL_law_22 := dk_seg dksL_law_21 24 rfl rfl
theorem dksL_law_23 : cL_law.data.toList.drop 638 = dktL_law_23 := dk_seg dksL_law_22 24 rfl rfl
theorem dksL_law_24 : cL_law.data.toList.drop 661 = dktL_law_24 := dk_seg dksL_law_23 23 rfl rfl
theorem dksL_law_25 : cL_law.data.toList.drop 685 = dktL_law_25 := dk_seg dksL_law_24 24 rfl rfl
theorem dksL_law_26 : cL_law.data.toList.drop 709 = dktL_law_26 := dk_seg dksL_law_25 24 rfl rfl
theorem dksL_law_27 : cL_law.data.toList.drop 733 = dktL_law_27 := dk_seg dksL_law_26 24 rfl rfl
theorem dksL_law_28 : cL_law.data.toList.drop 757 = dktL_law_28 := dk_seg dksL_law_27 24 rfl rfl
theorem dksL_law_29 : cL_law.data.toList.drop 781 = dktL_law_29 := dk_seg dksL_law_28 24 rfl rfl
theorem dksL_law_30 : cL_law.data.toList.drop 805 = dktL_law_30 := dk_seg dksL_law_29 24 rfl rfl
theorem dksL_law_31 : cL_law.data.toList.drop 827 = dktL_law_31 := dk_seg dksL_law_30 22 rfl rfl
theorem dksL_law_32 : cL_law.data.toList.drop 850 = dktL_law_32 := dk_seg dksL_law_31 23 rfl rfl
theorem dksL_law_33 : cL_law.data.toList.drop 874 = dktL_law_33 := dk_seg dksL_law_32 24 rfl rfl
theorem dksL_law_34 : cL_law.data.toList.drop 898 = dktL_law_34 := dk_seg dksL_law_33 24 rfl rfl
theorem dksL_law_35 : cL_law.data.toList.drop 922 = dktL_law_35 := dk_seg dksL_law_34 24 rfl rfl
theorem dksL_law_36 : cL_law.data.toList.drop 946 = dktL_law_36 := dk_seg dksL_law_35 24 rfl rfl
theorem dksL_law_37 : cL_law.data.toList.drop 970 = dktL_law_37 := dk_seg dksL_law_36 24 rfl rfl
theorem dksL_law_38 : cL_law.data.toList.drop 992 = dktL_law_38 := dk_seg dksL_law_37 22 rfl rfl
theorem dksL_law_39 : cL_law.data.toList.drop 1016 = dktL_law_39 := dk_seg dksL_law_38 24 rfl rfl
theorem dksL_law_40 : cL_law.data.toList.drop 1040 = dktL_law_40 := dk_seg dksL_law_39 24 rfl rfl
theorem dksL_law_41 : cL_law.data.toList.drop 1064 = dktL_law_41 := dk_seg dksL_law_40 24 rfl rfl
theorem dksL_law_42 : cL_law.data.toList.drop 1088 = dktL_law_42 := dk_seg dksL_law_41 24 rfl rfl
theorem dksL_law_43 : cL_law.data.toList.drop 1112 = dktL_law_43 := dk_seg dksL_law_42 24 rfl rfl
theorem dksL_law_44 : cL_law.data.toList.drop 1136 = dktL_law_44 := dk_seg dksL_law_43 24 rfl rfl
theorem dksL_law_45 : cL_law.data.toList.drop 1159 = dktL_law_45 := dk_seg dksL_law_44 23 rfl rfl
theorem dksL_law_46 : cL_law.data.toList.drop 1183 = dktL_law_46 := dk_seg dksL_law_45 24 rfl rfl
theorem dksL_law_47 : cL_law.data.toList.drop 1207 = dktL_law_47 := dk_seg dksL_law_46 24 rfl rfl
theorem dksL_law_48 : cL_law.data.toList.drop 1230 = dktL_law_48 := dk_seg dksL_law_47 23 rfl rfl
theorem dksL_law_49 : cL_law.data.toList.drop 1254 = dktL_law_49 := dk_seg dksL_law_48 24 rfl rfl
theorem dksL_law_50 : cL_law.data.toList.drop 1278 = dktL_law_50 := dk_seg dksL_law_49 24 rfl rfl
theorem dksL_law_51 : cL_law.data.toList.drop 1302 = dktL_law_51 := dk_seg dksL_law_50 24 rfl rfl
theorem dksL_law_52 : cL_law.data.toList.drop 1326 = dktL_law_52 := dk_seg dksL_law_51 24 rfl rfl
theorem dksL_law_53 : cL_law.data.toList.drop 1350 = dktL_law_53 := dk_seg dksL_law_52 24 rfl rfl
theorem dksL_law_54 : cL_law.data.toList.drop 1372 = dktL_law_54 := dk_seg dksL_law_53 22 rfl rfl
theorem dksL_law_55 : cL_law.data.toList.drop 1396 = dktL_law_55 := dk_seg dksL_law_54 24 rfl rfl
theorem dksL_law_56 : cL_law.data.toList.drop 1418 = dktL_law_56 := dk_seg dksL_law_55 22 rfl rfl
theorem dksL_law_57 : cL_law.data.toList.drop 1442 = dktL_law_57 := dk_seg dksL_law_56 24 rfl rfl
theorem dksL_law_58 : cL_law.data.toList.drop 1466 = dktL_law_58 := dk_seg dksL_law_57 24 rfl rfl
theorem dksL_law_59 : cL_law.data.toList.drop 1489 = dktL_law_59 := dk_seg dksL_law_58 23 rfl rfl
theorem dksL_law_60 : cL_law.data.toList.drop 1513 = dktL_law_60 := dk_seg dksL_law_59 24 rfl rfl
theorem dksL_law_61 : cL_law.data.toList.drop 1537 = dktL_law_61 := dk_seg dksL_law_60 24 rfl rfl
theorem dksL_law_62 : cL_law.data.toList.drop 1561 = dktL_law_62 := dk_seg dksL_law_61 24 rfl rfl
theorem dksL_law_63 : cL_law.data.toList.drop 1585 = dktL_law_63 := dk_seg dksL_law_62 24 rfl rfl
theorem dksL_law_64 : cL_law.data.toList.drop 1609 = dktL_law_64 := dk_seg dksL_law_63 24 rfl rfl
theorem dksL_law_65 : cL_law.data.toList.drop 1633 = dktL_law_65 := dk_seg dksL_law_64 24 rfl rfl
theorem dL_law_0 : decode cL_law 0 = .ok (.new 8, 3) := dk_187 0 8 (dk_at dksL_law_0 0 rfl rfl)
theorem dL_law_3 : decode cL_law 3 = .ok (.dup, 1) := dk_89 (dk_at dksL_law_0 3 rfl rfl)
theorem dL_law_4 : decode cL_law 4 = .ok (.invokespecial 26, 3) := dk_183 0 26 (dk_at dksL_law_0 4 rfl rfl)
theorem dL_law_7 : decode cL_law 7 = .ok (.astore_n 1, 1) := dk_76 (dk_at dksL_law_0 7 rfl rfl)
theorem dL_law_8 : decode cL_law 8 = .ok (.new 27, 3) := dk_187 0 27 (dk_at dksL_law_0 8 rfl rfl)
theorem dL_law_11 : decode cL_law 11 = .ok (.dup, 1) := dk_89 (dk_at dksL_law_0 11 rfl rfl)
theorem dL_law_12 : decode cL_law 12 = .ok (.invokespecial 29, 3) := dk_183 0 29 (dk_at dksL_law_0 12 rfl rfl)
theorem dL_law_15 : decode cL_law 15 = .ok (.astore_n 2, 1) := dk_77 (dk_at dksL_law_0 15 rfl rfl)
theorem dL_law_16 : decode cL_law 16 = .ok (.iconst 1, 1) := dk_4 (dk_at dksL_law_0 16 rfl rfl)
theorem dL_law_17 : decode cL_law 17 = .ok (.newarray .long, 2) := dk_188_11 (dk_at dksL_law_0 17 rfl rfl)
theorem dL_law_19 : decode cL_law 19 = .ok (.astore_n 3, 1) := dk_78 (dk_at dksL_law_0 19 rfl rfl)
theorem dL_law_20 : decode cL_law 20 = .ok (.iconst 0, 1) := dk_3 (dk_at dksL_law_0 20 rfl rfl)
theorem dL_law_21 : decode cL_law 21 = .ok (.istore 4, 2) := dk_54 4 (dk_at dksL_law_0 21 rfl rfl)
theorem dL_law_23 : decode cL_law 23 = .ok (.iload 4, 2) := dk_21 4 (dk_at dksL_law_1 0 rfl rfl)
theorem dL_law_25 : decode cL_law 25 = .ok (.aload_n 0, 1) := dk_42 (dk_at dksL_law_1 2 rfl rfl)
theorem dL_law_26 : decode cL_law 26 = .ok (.arraylength, 1) := dk_190 (dk_at dksL_law_1 3 rfl rfl)
theorem dL_law_27 : decode cL_law 27 = .ok (.bipush 8, 2) := dk_16 8 (dk_at dksL_law_1 4 rfl rfl)
theorem dL_law_29 : decode cL_law 29 = .ok (.isub, 1) := dk_100 (dk_at dksL_law_1 6 rfl rfl)
theorem dL_law_30 : decode cL_law 30 = .ok (.if_icmp .gt 1623, 3) := dk_163 6 87 (dk_at dksL_law_1 7 rfl rfl)
theorem dL_law_33 : decode cL_law 33 = .ok (.aload_n 0, 1) := dk_42 (dk_at dksL_law_1 10 rfl rfl)
theorem dL_law_34 : decode cL_law 34 = .ok (.iload 4, 2) := dk_21 4 (dk_at dksL_law_1 11 rfl rfl)
theorem dL_law_36 : decode cL_law 36 = .ok (.iaload, 1) := dk_46 (dk_at dksL_law_1 13 rfl rfl)
theorem dL_law_37 : decode cL_law 37 = .ok (.bipush 31, 2) := dk_16 31 (dk_at dksL_law_1 14 rfl rfl)
theorem dL_law_39 : decode cL_law 39 = .ok (.iand, 1) := dk_126 (dk_at dksL_law_1 16 rfl rfl)
theorem dL_law_40 : decode cL_law 40 = .ok (.tableswitch 1607 0 26 #[124, 149, 174, 277, 314, 363, 400, 501, 538, 685, 722, 790, 846, 883, 932, 988, 1025, 1105, 1154, 1215, 1276, 1337, 1386, 1435, 1484, 1521, 1582], 124) := by decide +kernel
theorem dL_law_164 : decode cL_law 164 = .ok (.aload_n 1, 1) := dk_43 (dk_at dksL_law_3 0 rfl rfl)
theorem dL_law_165 : decode cL_law 165 = .ok (.aload_n 0, 1) := dk_42 (dk_at dksL_law_3 1 rfl rfl)
theorem dL_law_166 : decode cL_law 166 = .ok (.iload 4, 2) := dk_21 4 (dk_at dksL_law_3 2 rfl rfl)
theorem dL_law_168 : decode cL_law 168 = .ok (.iconst 1, 1) := dk_4 (dk_at dksL_law_3 4 rfl rfl)
theorem dL_law_169 : decode cL_law 169 = .ok (.iadd, 1) := dk_96 (dk_at dksL_law_3 5 rfl rfl)
theorem dL_law_170 : decode cL_law 170 = .ok (.iaload, 1) := dk_46 (dk_at dksL_law_3 6 rfl rfl)
theorem dL_law_171 : decode cL_law 171 = .ok (.invokevirtual 30, 3) := dk_182 0 30 (dk_at dksL_law_3 7 rfl rfl)
theorem dL_law_174 : decode cL_law 174 = .ok (.aload_n 2, 1) := dk_44 (dk_at dksL_law_3 10 rfl rfl)
theorem dL_law_175 : decode cL_law 175 = .ok (.aload_n 0, 1) := dk_42 (dk_at dksL_law_3 11 rfl rfl)
theorem dL_law_176 : decode cL_law 176 = .ok (.iload 4, 2) := dk_21 4 (dk_at dksL_law_3 12 rfl rfl)
theorem dL_law_178 : decode cL_law 178 = .ok (.iconst 1, 1) := dk_4 (dk_at dksL_law_3 14 rfl rfl)
theorem dL_law_179 : decode cL_law 179 = .ok (.iadd, 1) := dk_96 (dk_at dksL_law_3 15 rfl rfl)
theorem dL_law_180 : decode cL_law 180 = .ok (.iaload, 1) := dk_46 (dk_at dksL_law_3 16 rfl rfl)
theorem dL_law_181 : decode cL_law 181 = .ok (.invokevirtual 33, 3) := dk_182 0 33 (dk_at dksL_law_3 17 rfl rfl)
theorem dL_law_184 : decode cL_law 184 = .ok (.if_icmp .eq 1463, 3) := dk_159 5 183 (dk_at dksL_law_3 20 rfl rfl)
theorem dL_law_187 : decode cL_law 187 = .ok (.iconst 0, 1) := dk_3 (dk_at dksL_law_3 23 rfl rfl)
theorem dL_law_188 : decode cL_law 188 = .ok (.ireturn, 1) := dk_172 (dk_at dksL_law_4 0 rfl rfl)
theorem dL_law_189 : decode cL_law 189 = .ok (.aload_n 1, 1) := dk_43 (dk_at dksL_law_4 1 rfl rfl)
theorem dL_law_190 : decode cL_law 190 = .ok (.aload_n 0, 1) := dk_42 (dk_at dksL_law_4 2 rfl rfl)
theorem dL_law_191 : decode cL_law 191 = .ok (.iload 4, 2) := dk_21 4 (dk_at dksL_law_4 3 rfl rfl)
theorem dL_law_193 : decode cL_law 193 = .ok (.iconst 1, 1) := dk_4 (dk_at dksL_law_4 5 rfl rfl)
theorem dL_law_194 : decode cL_law 194 = .ok (.iadd, 1) := dk_96 (dk_at dksL_law_4 6 rfl rfl)
theorem dL_law_195 : decode cL_law 195 = .ok (.iaload, 1) := dk_46 (dk_at dksL_law_4 7 rfl rfl)
theorem dL_law_196 : decode cL_law 196 = .ok (.invokevirtual 34, 3) := dk_182 0 34 (dk_at dksL_law_4 8 rfl rfl)
theorem dL_law_199 : decode cL_law 199 = .ok (.aload_n 2, 1) := dk_44 (dk_at dksL_law_4 11 rfl rfl)
theorem dL_law_200 : decode cL_law 200 = .ok (.aload_n 0, 1) := dk_42 (dk_at dksL_law_4 12 rfl rfl)
theorem dL_law_201 : decode cL_law 201 = .ok (.iload 4, 2) := dk_21 4 (dk_at dksL_law_4 13 rfl rfl)
theorem dL_law_203 : decode cL_law 203 = .ok (.iconst 1, 1) := dk_4 (dk_at dksL_law_4 15 rfl rfl)
theorem dL_law_204 : decode cL_law 204 = .ok (.iadd, 1) := dk_96 (dk_at dksL_law_4 16 rfl rfl)
theorem dL_law_205 : decode cL_law 205 = .ok (.iaload, 1) := dk_46 (dk_at dksL_law_4 17 rfl rfl)
theorem dL_law_206 : decode cL_law 206 = .ok (.invokevirtual 38, 3) := dk_182 0 38 (dk_at dksL_law_4 18 rfl rfl)
theorem dL_law_209 : decode cL_law 209 = .ok (.if_icmp .eq 1438, 3) := dk_159 5 158 (dk_at dksL_law_4 21 rfl rfl)
theorem dL_law_212 : decode cL_law 212 = .ok (.iconst 0, 1) := dk_3 (dk_at dksL_law_5 0 rfl rfl)
theorem dL_law_213 : decode cL_law 213 = .ok (.ireturn, 1) := dk_172 (dk_at dksL_law_5 1 rfl rfl)
theorem dL_law_214 : decode cL_law 214 = .ok (.aload_n 1, 1) := dk_43 (dk_at dksL_law_5 2 rfl rfl)
theorem dL_law_215 : decode cL_law 215 = .ok (.aload_n 0, 1) := dk_42 (dk_at dksL_law_5 3 rfl rfl)
theorem dL_law_216 : decode cL_law 216 = .ok (.iload 4, 2) := dk_21 4 (dk_at dksL_law_5 4 rfl rfl)
theorem dL_law_218 : decode cL_law 218 = .ok (.iconst 1, 1) := dk_4 (dk_at dksL_law_5 6 rfl rfl)
theorem dL_law_219 : decode cL_law 219 = .ok (.iadd, 1) := dk_96 (dk_at dksL_law_5 7 rfl rfl)
theorem dL_law_220 : decode cL_law 220 = .ok (.iaload, 1) := dk_46 (dk_at dksL_law_5 8 rfl rfl)
theorem dL_law_221 : decode cL_law 221 = .ok (.aload_n 0, 1) := dk_42 (dk_at dksL_law_5 9 rfl rfl)
theorem dL_law_222 : decode cL_law 222 = .ok (.iload 4, 2) := dk_21 4 (dk_at dksL_law_5 10 rfl rfl)
theorem dL_law_224 : decode cL_law 224 = .ok (.iconst 2, 1) := dk_5 (dk_at dksL_law_5 12 rfl rfl)
theorem dL_law_225 : decode cL_law 225 = .ok (.iadd, 1) := dk_96 (dk_at dksL_law_5 13 rfl rfl)
theorem dL_law_226 : decode cL_law 226 = .ok (.iaload, 1) := dk_46 (dk_at dksL_law_5 14 rfl rfl)
theorem dL_law_227 : decode cL_law 227 = .ok (.aload_n 0, 1) := dk_42 (dk_at dksL_law_5 15 rfl rfl)
theorem dL_law_228 : decode cL_law 228 = .ok (.iload 4, 2) := dk_21 4 (dk_at dksL_law_5 16 rfl rfl)
theorem dL_law_230 : decode cL_law 230 = .ok (.iconst 3, 1) := dk_6 (dk_at dksL_law_5 18 rfl rfl)
theorem dL_law_231 : decode cL_law 231 = .ok (.iadd, 1) := dk_96 (dk_at dksL_law_5 19 rfl rfl)
theorem dL_law_232 : decode cL_law 232 = .ok (.iaload, 1) := dk_46 (dk_at dksL_law_5 20 rfl rfl)
theorem dL_law_233 : decode cL_law 233 = .ok (.aload_n 0, 1) := dk_42 (dk_at dksL_law_5 21 rfl rfl)
theorem dL_law_234 : decode cL_law 234 = .ok (.iload 4, 2) := dk_21 4 (dk_at dksL_law_5 22 rfl rfl)
theorem dL_law_236 : decode cL_law 236 = .ok (.iconst 4, 1) := dk_7 (dk_at dksL_law_6 0 rfl rfl)
theorem dL_law_237 : decode cL_law 237 = .ok (.iadd, 1) := dk_96 (dk_at dksL_law_6 1 rfl rfl)
theorem dL_law_238 : decode cL_law 238 = .ok (.iaload, 1) := dk_46 (dk_at dksL_law_6 2 rfl rfl)
theorem dL_law_239 : decode cL_law 239 = .ok (.aload_n 0, 1) := dk_42 (dk_at dksL_law_6 3 rfl rfl)
theorem dL_law_240 : decode cL_law 240 = .ok (.iload 4, 2) := dk_21 4 (dk_at dksL_law_6 4 rfl rfl)
theorem dL_law_242 : decode cL_law 242 = .ok (.iconst 5, 1) := dk_8 (dk_at dksL_law_6 6 rfl rfl)
theorem dL_law_243 : decode cL_law 243 = .ok (.iadd, 1) := dk_96 (dk_at dksL_law_6 7 rfl rfl)
theorem dL_law_244 : decode cL_law 244 = .ok (.iaload, 1) := dk_46 (dk_at dksL_law_6 8 rfl rfl)
theorem dL_law_245 : decode cL_law 245 = .ok (.aload_n 0, 1) := dk_42 (dk_at dksL_law_6 9 rfl rfl)
theorem dL_law_246 : decode cL_law 246 = .ok (.iload 4, 2) := dk_21 4 (dk_at dksL_law_6 10 rfl rfl)
theorem dL_law_248 : decode cL_law 248 = .ok (.bipush 6, 2) := dk_16 6 (dk_at dksL_law_6 12 rfl rfl)
theorem dL_law_250 : decode cL_law 250 = .ok (.iadd, 1) := dk_96 (dk_at dksL_law_6 14 rfl rfl)
theorem dL_law_251 : decode cL_law 251 = .ok (.iaload, 1) := dk_46 (dk_at dksL_law_6 15 rfl rfl)
theorem dL_law_252 : decode cL_law 252 = .ok (.ifCond .eq 7, 3) := dk_153 0 7 (dk_at dksL_law_6 16 rfl rfl)
theorem dL_law_255 : decode cL_law 255 = .ok (.iconst 1, 1) := dk_4 (dk_at dksL_law_6 19 rfl rfl)
theorem dL_law_256 : decode cL_law 256 = .ok (.goto 4, 3) := dk_167 0 4 (dk_at dksL_law_6 20 rfl rfl)
theorem dL_law_259 : decode cL_law 259 = .ok (.iconst 0, 1) := dk_3 (dk_at dksL_law_6 23 rfl rfl)
theorem dL_law_260 : decode cL_law 260 = .ok (.invokevirtual 39, 3) := dk_182 0 39 (dk_at dksL_law_7 0 rfl rfl)
theorem dL_law_263 : decode cL_law 263 = .ok (.aload_n 2, 1) := dk_44 (dk_at dksL_law_7 3 rfl rfl)
theorem dL_law_264 : decode cL_law 264 = .ok (.aload_n 0, 1) := dk_42 (dk_at dksL_law_7 4 rfl rfl)
theorem dL_law_265 : decode cL_law 265 = .ok (.iload 4, 2) := dk_21 4 (dk_at dksL_law_7 5 rfl rfl)
theorem dL_law_267 : decode cL_law 267 = .ok (.iconst 1, 1) := dk_4 (dk_at dksL_law_7 7 rfl rfl)
theorem dL_law_268 : decode cL_law 268 = .ok (.iadd, 1) := dk_96 (dk_at dksL_law_7 8 rfl rfl)
theorem dL_law_269 : decode cL_law 269 = .ok (.iaload, 1) := dk_46 (dk_at dksL_law_7 9 rfl rfl)
theorem dL_law_270 : decode cL_law 270 = .ok (.aload_n 0, 1) := dk_42 (dk_at dksL_law_7 10 rfl rfl)
theorem dL_law_271 : decode cL_law 271 = .ok (.iload 4, 2) := dk_21 4 (dk_at dksL_law_7 11 rfl rfl)
theorem dL_law_273 : decode cL_law 273 = .ok (.iconst 2, 1) := dk_5 (dk_at dksL_law_7 13 rfl rfl)
theorem dL_law_274 : decode cL_law 274 = .ok (.iadd, 1) := dk_96 (dk_at dksL_law_7 14 rfl rfl)
theorem dL_law_275 : decode cL_law 275 = .ok (.iaload, 1) := dk_46 (dk_at dksL_law_7 15 rfl rfl)
theorem dL_law_276 : decode cL_law 276 = .ok (.aload_n 0, 1) := dk_42 (dk_at dksL_law_7 16 rfl rfl)
theorem dL_law_277 : decode cL_law 277 = .ok (.iload 4, 2) := dk_21 4 (dk_at dksL_law_7 17 rfl rfl)
theorem dL_law_279 : decode cL_law 279 = .ok (.iconst 3, 1) := dk_6 (dk_at dksL_law_7 19 rfl rfl)
theorem dL_law_280 : decode cL_law 280 = .ok (.iadd, 1) := dk_96 (dk_at dksL_law_7 20 rfl rfl)
theorem dL_law_281 : decode cL_law 281 = .ok (.iaload, 1) := dk_46 (dk_at dksL_law_7 21 rfl rfl)
theorem dL_law_282 : decode cL_law 282 = .ok (.aload_n 0, 1) := dk_42 (dk_at dksL_law_7 22 rfl rfl)
theorem dL_law_283 : decode cL_law 283 = .ok (.iload 4, 2) := dk_21 4 (dk_at dksL_law_8 0 rfl rfl)
theorem dL_law_285 : decode cL_law 285 = .ok (.iconst 4, 1) := dk_7 (dk_at dksL_law_8 2 rfl rfl)
theorem dL_law_286 : decode cL_law 286 = .ok (.iadd, 1) := dk_96 (dk_at dksL_law_8 3 rfl rfl)
theorem dL_law_287 : decode cL_law 287 = .ok (.iaload, 1) := dk_46 (dk_at dksL_law_8 4 rfl rfl)
theorem dL_law_288 : decode cL_law 288 = .ok (.aload_n 0, 1) := dk_42 (dk_at dksL_law_8 5 rfl rfl)
theorem dL_law_289 : decode cL_law 289 = .ok (.iload 4, 2) := dk_21 4 (dk_at dksL_law_8 6 rfl rfl)
theorem dL_law_291 : decode cL_law 291 = .ok (.iconst 5, 1) := dk_8 (dk_at dksL_law_8 8 rfl rfl)
theorem dL_law_292 : decode cL_law 292 = .ok (.iadd, 1) := dk_96 (dk_at dksL_law_8 9 rfl rfl)
theorem dL_law_293 : decode cL_law 293 = .ok (.iaload, 1) := dk_46 (dk_at dksL_law_8 10 rfl rfl)
theorem dL_law_294 : decode cL_law 294 = .ok (.aload_n 0, 1) := dk_42 (dk_at dksL_law_8 11 rfl rfl)
theorem dL_law_295 : decode cL_law 295 = .ok (.iload 4, 2) := dk_21 4 (dk_at dksL_law_8 12 rfl rfl)
theorem dL_law_297 : decode cL_law 297 = .ok (.bipush 6, 2) := dk_16 6 (dk_at dksL_law_8 14 rfl rfl)
theorem dL_law_299 : decode cL_law 299 = .ok (.iadd, 1) := dk_96 (dk_at dksL_law_8 16 rfl rfl)
theorem dL_law_300 : decode cL_law 300 = .ok (.iaload, 1) := dk_46 (dk_at dksL_law_8 17 rfl rfl)
theorem dL_law_301 : decode cL_law 301 = .ok (.ifCond .eq 7, 3) := dk_153 0 7 (dk_at dksL_law_8 18 rfl rfl)
theorem dL_law_304 : decode cL_law 304 = .ok (.iconst 1, 1) := dk_4 (dk_at dksL_law_8 21 rfl rfl)
theorem dL_law_305 : decode cL_law 305 = .ok (.goto 4, 3) := dk_167 0 4 (dk_at dksL_law_9 0 rfl rfl)
theorem dL_law_308 : decode cL_law 308 = .ok (.iconst 0, 1) := dk_3 (dk_at dksL_law_9 3 rfl rfl)
theorem dL_law_309 : decode cL_law 309 = .ok (.invokevirtual 43, 3) := dk_182 0 43 (dk_at dksL_law_9 4 rfl rfl)
theorem dL_law_312 : decode cL_law 312 = .ok (.if_icmp .eq 1335, 3) := dk_159 5 55 (dk_at dksL_law_9 7 rfl rfl)
theorem dL_law_315 : decode cL_law 315 = .ok (.iconst 0, 1) := dk_3 (dk_at dksL_law_9 10 rfl rfl)
theorem dL_law_316 : decode cL_law 316 = .ok (.ireturn, 1) := dk_172 (dk_at dksL_law_9 11 rfl rfl)
theorem dL_law_317 : decode cL_law 317 = .ok (.aload_n 1, 1) := dk_43 (dk_at dksL_law_9 12 rfl rfl)
theorem dL_law_318 : decode cL_law 318 = .ok (.aload_n 0, 1) := dk_42 (dk_at dksL_law_9 13 rfl rfl)
theorem dL_law_319 : decode cL_law 319 = .ok (.iload 4, 2) := dk_21 4 (dk_at dksL_law_9 14 rfl rfl)
theorem dL_law_321 : decode cL_law 321 = .ok (.iconst 1, 1) := dk_4 (dk_at dksL_law_9 16 rfl rfl)
theorem dL_law_322 : decode cL_law 322 = .ok (.iadd, 1) := dk_96 (dk_at dksL_law_9 17 rfl rfl)
theorem dL_law_323 : decode cL_law 323 = .ok (.iaload, 1) := dk_46 (dk_at dksL_law_9 18 rfl rfl)
theorem dL_law_324 : decode cL_law 324 = .ok (.aload_n 0, 1) := dk_42 (dk_at dksL_law_9 19 rfl rfl)
theorem dL_law_325 : decode cL_law 325 = .ok (.iload 4, 2) := dk_21 4 (dk_at dksL_law_9 20 rfl rfl)
theorem dL_law_327 : decode cL_law 327 = .ok (.iconst 2, 1) := dk_5 (dk_at dksL_law_9 22 rfl rfl)
theorem dL_law_328 : decode cL_law 328 = .ok (.iadd, 1) := dk_96 (dk_at dksL_law_9 23 rfl rfl)
theorem dL_law_329 : decode cL_law 329 = .ok (.iaload, 1) := dk_46 (dk_at dksL_law_10 0 rfl rfl)
theorem dL_law_330 : decode cL_law 330 = .ok (.invokevirtual 44, 3) := dk_182 0 44 (dk_at dksL_law_10 1 rfl rfl)
theorem dL_law_333 : decode cL_law 333 = .ok (.aload_n 2, 1) := dk_44 (dk_at dksL_law_10 4 rfl rfl)
theorem dL_law_334 : decode cL_law 334 = .ok (.aload_n 0, 1) := dk_42 (dk_at dksL_law_10 5 rfl rfl)
theorem dL_law_335 : decode cL_law 335 = .ok (.iload 4, 2) := dk_21 4 (dk_at dksL_law_10 6 rfl rfl)
theorem dL_law_337 : decode cL_law 337 = .ok (.iconst 1, 1) := dk_4 (dk_at dksL_law_10 8 rfl rfl)
theorem dL_law_338 : decode cL_law 338 = .ok (.iadd, 1) := dk_96 (dk_at dksL_law_10 9 rfl rfl)
theorem dL_law_339 : decode cL_law 339 = .ok (.iaload, 1) := dk_46 (dk_at dksL_law_10 10 rfl rfl)
theorem dL_law_340 : decode cL_law 340 = .ok (.aload_n 0, 1) := dk_42 (dk_at dksL_law_10 11 rfl rfl)
theorem dL_law_341 : decode cL_law 341 = .ok (.iload 4, 2) := dk_21 4 (dk_at dksL_law_10 12 rfl rfl)
theorem dL_law_343 : decode cL_law 343 = .ok (.iconst 2, 1) := dk_5 (dk_at dksL_law_10 14 rfl rfl)
theorem dL_law_344 : decode cL_law 344 = .ok (.iadd, 1) := dk_96 (dk_at dksL_law_10 15 rfl rfl)
theorem dL_law_345 : decode cL_law 345 = .ok (.iaload, 1) := dk_46 (dk_at dksL_law_10 16 rfl rfl)
theorem dL_law_346 : decode cL_law 346 = .ok (.invokevirtual 47, 3) := dk_182 0 47 (dk_at dksL_law_10 17 rfl rfl)
theorem dL_law_349 : decode cL_law 349 = .ok (.if_icmp .eq 1298, 3) := dk_159 5 18 (dk_at dksL_law_10 20 rfl rfl)
theorem dL_law_352 : decode cL_law 352 = .ok (.iconst 0, 1) := dk_3 (dk_at dksL_law_10 23 rfl rfl)
theorem dL_law_353 : decode cL_law 353 = .ok (.ireturn, 1) := dk_172 (dk_at dksL_law_11 0 rfl rfl)
theorem dL_law_354 : decode cL_law 354 = .ok (.aload_n 1, 1) := dk_43 (dk_at dksL_law_11 1 rfl rfl)
theorem dL_law_355 : decode cL_law 355 = .ok (.aload_n 0, 1) := dk_42 (dk_at dksL_law_11 2 rfl rfl)
theorem dL_law_356 : decode cL_law 356 = .ok (.iload 4, 2) := dk_21 4 (dk_at dksL_law_11 3 rfl rfl)
theorem dL_law_358 : decode cL_law 358 = .ok (.iconst 1, 1) := dk_4 (dk_at dksL_law_11 5 rfl rfl)
theorem dL_law_359 : decode cL_law 359 = .ok (.iadd, 1) := dk_96 (dk_at dksL_law_11 6 rfl rfl)
theorem dL_law_360 : decode cL_law 360 = .ok (.iaload, 1) := dk_46 (dk_at dksL_law_11 7 rfl rfl)
theorem dL_law_361 : decode cL_law 361 = .ok (.aload_n 0, 1) := dk_42 (dk_at dksL_law_11 8 rfl rfl)
theorem dL_law_362 : decode cL_law 362 = .ok (.iload 4, 2) := dk_21 4 (dk_at dksL_law_11 9 rfl rfl)
theorem dL_law_364 : decode cL_law 364 = .ok (.iconst 2, 1) := dk_5 (dk_at dksL_law_11 11 rfl rfl)
theorem dL_law_365 : decode cL_law 365 = .ok (.iadd, 1) := dk_96 (dk_at dksL_law_11 12 rfl rfl)
theorem dL_law_366 : decode cL_law 366 = .ok (.iaload, 1) := dk_46 (dk_at dksL_law_11 13 rfl rfl)
theorem dL_law_367 : decode cL_law 367 = .ok (.aload_n 0, 1) := dk_42 (dk_at dksL_law_11 14 rfl rfl)
theorem dL_law_368 : decode cL_law 368 = .ok (.iload 4, 2) := dk_21 4 (dk_at dksL_law_11 15 rfl rfl)
theorem dL_law_370 : decode cL_law 370 = .ok (.iconst 3, 1) := dk_6 (dk_at dksL_law_11 17 rfl rfl)
theorem dL_law_371 : decode cL_law 371 = .ok (.iadd, 1) := dk_96 (dk_at dksL_law_11 18 rfl rfl)
theorem dL_law_372 : decode cL_law 372 = .ok (.iaload, 1) := dk_46 (dk_at dksL_law_11 19 rfl rfl)
theorem dL_law_373 : decode cL_law 373 = .ok (.invokevirtual 48, 3) := dk_182 0 48 (dk_at dksL_law_11 20 rfl rfl)
theorem dL_law_376 : decode cL_law 376 = .ok (.aload_n 2, 1) := dk_44 (dk_at dksL_law_11 23 rfl rfl)
theorem dL_law_377 : decode cL_law 377 = .ok (.aload_n 0, 1) := dk_42 (dk_at dksL_law_12 0 rfl rfl)
theorem dL_law_378 : decode cL_law 378 = .ok (.iload 4, 2) := dk_21 4 (dk_at dksL_law_12 1 rfl rfl)
theorem dL_law_380 : decode cL_law 380 = .ok (.iconst 1, 1) := dk_4 (dk_at dksL_law_12 3 rfl rfl)
theorem dL_law_381 : decode cL_law 381 = .ok (.iadd, 1) := dk_96 (dk_at dksL_law_12 4 rfl rfl)
theorem dL_law_382 : decode cL_law 382 = .ok (.iaload, 1) := dk_46 (dk_at dksL_law_12 5 rfl rfl)
theorem dL_law_383 : decode cL_law 383 = .ok (.aload_n 0, 1) := dk_42 (dk_at dksL_law_12 6 rfl rfl)
theorem dL_law_384 : decode cL_law 384 = .ok (.iload 4, 2) := dk_21 4 (dk_at dksL_law_12 7 rfl rfl)
theorem dL_law_386 : decode cL_law 386 = .ok (.iconst 2, 1) := dk_5 (dk_at dksL_law_12 9 rfl rfl)
theorem dL_law_387 : decode cL_law 387 = .ok (.iadd, 1) := dk_96 (dk_at dksL_law_12 10 rfl rfl)
theorem dL_law_388 : decode cL_law 388 = .ok (.iaload, 1) := dk_46 (dk_at dksL_law_12 11 rfl rfl)
theorem dL_law_389 : decode cL_law 389 = .ok (.aload_n 0, 1) := dk_42 (dk_at dksL_law_12 12 rfl rfl)
theorem dL_law_390 : decode cL_law 390 = .ok (.iload 4, 2) := dk_21 4 (dk_at dksL_law_12 13 rfl rfl)
theorem dL_law_392 : decode cL_law 392 = .ok (.iconst 3, 1) := dk_6 (dk_at dksL_law_12 15 rfl rfl)
theorem dL_law_393 : decode cL_law 393 = .ok (.iadd, 1) := dk_96 (dk_at dksL_law_12 16 rfl rfl)
theorem dL_law_394 : decode cL_law 394 = .ok (.iaload, 1) := dk_46 (dk_at dksL_law_12 17 rfl rfl)
theorem dL_law_395 : decode cL_law 395 = .ok (.invokevirtual 52, 3) := dk_182 0 52 (dk_at dksL_law_12 18 rfl rfl)
theorem dL_law_398 : decode cL_law 398 = .ok (.if_icmp .eq 1249, 3) := dk_159 4 225 (dk_at dksL_law_12 21 rfl rfl)
theorem dL_law_401 : decode cL_law 401 = .ok (.iconst 0, 1) := dk_3 (dk_at dksL_law_13 0 rfl rfl)
theorem dL_law_402 : decode cL_law 402 = .ok (.ireturn, 1) := dk_172 (dk_at dksL_law_13 1 rfl rfl)
theorem dL_law_403 : decode cL_law 403 = .ok (.aload_n 1, 1) := dk_43 (dk_at dksL_law_13 2 rfl rfl)
theorem dL_law_404 : decode cL_law 404 = .ok (.aload_n 0, 1) := dk_42 (dk_at dksL_law_13 3 rfl rfl)
theorem dL_law_405 : decode cL_law 405 = .ok (.iload 4, 2) := dk_21 4 (dk_at dksL_law_13 4 rfl rfl)
theorem dL_law_407 : decode cL_law 407 = .ok (.iconst 1, 1) := dk_4 (dk_at dksL_law_13 6 rfl rfl)
theorem dL_law_408 : decode cL_law 408 = .ok (.iadd, 1) := dk_96 (dk_at dksL_law_13 7 rfl rfl)
theorem dL_law_409 : decode cL_law 409 = .ok (.iaload, 1) := dk_46 (dk_at dksL_law_13 8 rfl rfl)
theorem dL_law_410 : decode cL_law 410 = .ok (.aload_n 0, 1) := dk_42 (dk_at dksL_law_13 9 rfl rfl)
theorem dL_law_411 : decode cL_law 411 = .ok (.iload 4, 2) := dk_21 4 (dk_at dksL_law_13 10 rfl rfl)
theorem dL_law_413 : decode cL_law 413 = .ok (.iconst 2, 1) := dk_5 (dk_at dksL_law_13 12 rfl rfl)
theorem dL_law_414 : decode cL_law 414 = .ok (.iadd, 1) := dk_96 (dk_at dksL_law_13 13 rfl rfl)
theorem dL_law_415 : decode cL_law 415 = .ok (.iaload, 1) := dk_46 (dk_at dksL_law_13 14 rfl rfl)
theorem dL_law_416 : decode cL_law 416 = .ok (.invokevirtual 53, 3) := dk_182 0 53 (dk_at dksL_law_13 15 rfl rfl)
theorem dL_law_419 : decode cL_law 419 = .ok (.aload_n 2, 1) := dk_44 (dk_at dksL_law_13 18 rfl rfl)
theorem dL_law_420 : decode cL_law 420 = .ok (.aload_n 0, 1) := dk_42 (dk_at dksL_law_13 19 rfl rfl)
theorem dL_law_421 : decode cL_law 421 = .ok (.iload 4, 2) := dk_21 4 (dk_at dksL_law_13 20 rfl rfl)
theorem dL_law_423 : decode cL_law 423 = .ok (.iconst 1, 1) := dk_4 (dk_at dksL_law_13 22 rfl rfl)
theorem dL_law_424 : decode cL_law 424 = .ok (.iadd, 1) := dk_96 (dk_at dksL_law_13 23 rfl rfl)
theorem dL_law_425 : decode cL_law 425 = .ok (.iaload, 1) := dk_46 (dk_at dksL_law_14 0 rfl rfl)
theorem dL_law_426 : decode cL_law 426 = .ok (.aload_n 0, 1) := dk_42 (dk_at dksL_law_14 1 rfl rfl)
theorem dL_law_427 : decode cL_law 427 = .ok (.iload 4, 2) := dk_21 4 (dk_at dksL_law_14 2 rfl rfl)
theorem dL_law_429 : decode cL_law 429 = .ok (.iconst 2, 1) := dk_5 (dk_at dksL_law_14 4 rfl rfl)
theorem dL_law_430 : decode cL_law 430 = .ok (.iadd, 1) := dk_96 (dk_at dksL_law_14 5 rfl rfl)
theorem dL_law_431 : decode cL_law 431 = .ok (.iaload, 1) := dk_46 (dk_at dksL_law_14 6 rfl rfl)
theorem dL_law_432 : decode cL_law 432 = .ok (.invokevirtual 57, 3) := dk_182 0 57 (dk_at dksL_law_14 7 rfl rfl)
theorem dL_law_435 : decode cL_law 435 = .ok (.if_icmp .eq 1212, 3) := dk_159 4 188 (dk_at dksL_law_14 10 rfl rfl)
theorem dL_law_438 : decode cL_law 438 = .ok (.iconst 0, 1) := dk_3 (dk_at dksL_law_14 13 rfl rfl)
theorem dL_law_439 : decode cL_law 439 = .ok (.ireturn, 1) := dk_172 (dk_at dksL_law_14 14 rfl rfl)
theorem dL_law_440 : decode cL_law 440 = .ok (.aload_n 1, 1) := dk_43 (dk_at dksL_law_14 15 rfl rfl)
theorem dL_law_441 : decode cL_law 441 = .ok (.aload_n 0, 1) := dk_42 (dk_at dksL_law_14 16 rfl rfl)
theorem dL_law_442 : decode cL_law 442 = .ok (.iload 4, 2) := dk_21 4 (dk_at dksL_law_14 17 rfl rfl)
theorem dL_law_444 : decode cL_law 444 = .ok (.iconst 1, 1) := dk_4 (dk_at dksL_law_14 19 rfl rfl)
theorem dL_law_445 : decode cL_law 445 = .ok (.iadd, 1) := dk_96 (dk_at dksL_law_14 20 rfl rfl)
theorem dL_law_446 : decode cL_law 446 = .ok (.iaload, 1) := dk_46 (dk_at dksL_law_14 21 rfl rfl)
theorem dL_law_447 : decode cL_law 447 = .ok (.aload_n 0, 1) := dk_42 (dk_at dksL_law_14 22 rfl rfl)
theorem dL_law_448 : decode cL_law 448 = .ok (.iload 4, 2) := dk_21 4 (dk_at dksL_law_15 0 rfl rfl)
theorem dL_law_450 : decode cL_law 450 = .ok (.iconst 2, 1) := dk_5 (dk_at dksL_law_15 2 rfl rfl)
theorem dL_law_451 : decode cL_law 451 = .ok (.iadd, 1) := dk_96 (dk_at dksL_law_15 3 rfl rfl)
theorem dL_law_452 : decode cL_law 452 = .ok (.iaload, 1) := dk_46 (dk_at dksL_law_15 4 rfl rfl)
theorem dL_law_453 : decode cL_law 453 = .ok (.aload_n 0, 1) := dk_42 (dk_at dksL_law_15 5 rfl rfl)
theorem dL_law_454 : decode cL_law 454 = .ok (.iload 4, 2) := dk_21 4 (dk_at dksL_law_15 6 rfl rfl)
theorem dL_law_456 : decode cL_law 456 = .ok (.iconst 3, 1) := dk_6 (dk_at dksL_law_15 8 rfl rfl)
theorem dL_law_457 : decode cL_law 457 = .ok (.iadd, 1) := dk_96 (dk_at dksL_law_15 9 rfl rfl)
theorem dL_law_458 : decode cL_law 458 = .ok (.iaload, 1) := dk_46 (dk_at dksL_law_15 10 rfl rfl)
theorem dL_law_459 : decode cL_law 459 = .ok (.aload_n 0, 1) := dk_42 (dk_at dksL_law_15 11 rfl rfl)
theorem dL_law_460 : decode cL_law 460 = .ok (.iload 4, 2) := dk_21 4 (dk_at dksL_law_15 12 rfl rfl)
theorem dL_law_462 : decode cL_law 462 = .ok (.iconst 4, 1) := dk_7 (dk_at dksL_law_15 14 rfl rfl)
theorem dL_law_463 : decode cL_law 463 = .ok (.iadd, 1) := dk_96 (dk_at dksL_law_15 15 rfl rfl)
theorem dL_law_464 : decode cL_law 464 = .ok (.iaload, 1) := dk_46 (dk_at dksL_law_15 16 rfl rfl)
theorem dL_law_465 : decode cL_law 465 = .ok (.aload_n 0, 1) := dk_42 (dk_at dksL_law_15 17 rfl rfl)
theorem dL_law_466 : decode cL_law 466 = .ok (.iload 4, 2) := dk_21 4 (dk_at dksL_law_15 18 rfl rfl)
theorem dL_law_468 : decode cL_law 468 = .ok (.iconst 5, 1) := dk_8 (dk_at dksL_law_15 20 rfl rfl)
theorem dL_law_469 : decode cL_law 469 = .ok (.iadd, 1) := dk_96 (dk_at dksL_law_15 21 rfl rfl)
theorem dL_law_470 : decode cL_law 470 = .ok (.iaload, 1) := dk_46 (dk_at dksL_law_15 22 rfl rfl)
theorem dL_law_471 : decode cL_law 471 = .ok (.aload_n 0, 1) := dk_42 (dk_at dksL_law_15 23 rfl rfl)
theorem dL_law_472 : decode cL_law 472 = .ok (.iload 4, 2) := dk_21 4 (dk_at dksL_law_16 0 rfl rfl)
theorem dL_law_474 : decode cL_law 474 = .ok (.bipush 6, 2) := dk_16 6 (dk_at dksL_law_16 2 rfl rfl)
theorem dL_law_476 : decode cL_law 476 = .ok (.iadd, 1) := dk_96 (dk_at dksL_law_16 4 rfl rfl)
theorem dL_law_477 : decode cL_law 477 = .ok (.iaload, 1) := dk_46 (dk_at dksL_law_16 5 rfl rfl)
theorem dL_law_478 : decode cL_law 478 = .ok (.aload_n 0, 1) := dk_42 (dk_at dksL_law_16 6 rfl rfl)
theorem dL_law_479 : decode cL_law 479 = .ok (.iload 4, 2) := dk_21 4 (dk_at dksL_law_16 7 rfl rfl)
theorem dL_law_481 : decode cL_law 481 = .ok (.bipush 7, 2) := dk_16 7 (dk_at dksL_law_16 9 rfl rfl)
theorem dL_law_483 : decode cL_law 483 = .ok (.iadd, 1) := dk_96 (dk_at dksL_law_16 11 rfl rfl)
theorem dL_law_484 : decode cL_law 484 = .ok (.iaload, 1) := dk_46 (dk_at dksL_law_16 12 rfl rfl)
theorem dL_law_485 : decode cL_law 485 = .ok (.invokevirtual 58, 3) := dk_182 0 58 (dk_at dksL_law_16 13 rfl rfl)
theorem dL_law_488 : decode cL_law 488 = .ok (.aload_n 2, 1) := dk_44 (dk_at dksL_law_16 16 rfl rfl)
theorem dL_law_489 : decode cL_law 489 = .ok (.aload_n 0, 1) := dk_42 (dk_at dksL_law_16 17 rfl rfl)
theorem dL_law_490 : decode cL_law 490 = .ok (.iload 4, 2) := dk_21 4 (dk_at dksL_law_16 18 rfl rfl)
theorem dL_law_492 : decode cL_law 492 = .ok (.iconst 1, 1) := dk_4 (dk_at dksL_law_16 20 rfl rfl)
theorem dL_law_493 : decode cL_law 493 = .ok (.iadd, 1) := dk_96 (dk_at dksL_law_16 21 rfl rfl)
theorem dL_law_494 : decode cL_law 494 = .ok (.iaload, 1) := dk_46 (dk_at dksL_law_16 22 rfl rfl)
theorem dL_law_495 : decode cL_law 495 = .ok (.aload_n 0, 1) := dk_42 (dk_at dksL_law_16 23 rfl rfl)
theorem dL_law_496 : decode cL_law 496 = .ok (.iload 4, 2) := dk_21 4 (dk_at dksL_law_17 0 rfl rfl)
theorem dL_law_498 : decode cL_law 498 = .ok (.iconst 2, 1) := dk_5 (dk_at dksL_law_17 2 rfl rfl)
theorem dL_law_499 : decode cL_law 499 = .ok (.iadd, 1) := dk_96 (dk_at dksL_law_17 3 rfl rfl)
theorem dL_law_500 : decode cL_law 500 = .ok (.iaload, 1) := dk_46 (dk_at dksL_law_17 4 rfl rfl)
theorem dL_law_501 : decode cL_law 501 = .ok (.aload_n 0, 1) := dk_42 (dk_at dksL_law_17 5 rfl rfl)
theorem dL_law_502 : decode cL_law 502 = .ok (.iload 4, 2) := dk_21 4 (dk_at dksL_law_17 6 rfl rfl)
theorem dL_law_504 : decode cL_law 504 = .ok (.iconst 3, 1) := dk_6 (dk_at dksL_law_17 8 rfl rfl)
theorem dL_law_505 : decode cL_law 505 = .ok (.iadd, 1) := dk_96 (dk_at dksL_law_17 9 rfl rfl)
theorem dL_law_506 : decode cL_law 506 = .ok (.iaload, 1) := dk_46 (dk_at dksL_law_17 10 rfl rfl)
theorem dL_law_507 : decode cL_law 507 = .ok (.aload_n 0, 1) := dk_42 (dk_at dksL_law_17 11 rfl rfl)
theorem dL_law_508 : decode cL_law 508 = .ok (.iload 4, 2) := dk_21 4 (dk_at dksL_law_17 12 rfl rfl)
theorem dL_law_510 : decode cL_law 510 = .ok (.iconst 4, 1) := dk_7 (dk_at dksL_law_17 14 rfl rfl)
theorem dL_law_511 : decode cL_law 511 = .ok (.iadd, 1) := dk_96 (dk_at dksL_law_17 15 rfl rfl)
theorem dL_law_512 : decode cL_law 512 = .ok (.iaload, 1) := dk_46 (dk_at dksL_law_17 16 rfl rfl)
theorem dL_law_513 : decode cL_law 513 = .ok (.aload_n 0, 1) := dk_42 (dk_at dksL_law_17 17 rfl rfl)
theorem dL_law_514 : decode cL_law 514 = .ok (.iload 4, 2) := dk_21 4 (dk_at dksL_law_17 18 rfl rfl)
theorem dL_law_516 : decode cL_law 516 = .ok (.iconst 5, 1) := dk_8 (dk_at dksL_law_17 20 rfl rfl)
theorem dL_law_517 : decode cL_law 517 = .ok (.iadd, 1) := dk_96 (dk_at dksL_law_17 21 rfl rfl)
theorem dL_law_518 : decode cL_law 518 = .ok (.iaload, 1) := dk_46 (dk_at dksL_law_17 22 rfl rfl)
theorem dL_law_519 : decode cL_law 519 = .ok (.aload_n 0, 1) := dk_42 (dk_at dksL_law_17 23 rfl rfl)
theorem dL_law_520 : decode cL_law 520 = .ok (.iload 4, 2) := dk_21 4 (dk_at dksL_law_18 0 rfl rfl)
theorem dL_law_522 : decode cL_law 522 = .ok (.bipush 6, 2) := dk_16 6 (dk_at dksL_law_18 2 rfl rfl)
theorem dL_law_524 : decode cL_law 524 = .ok (.iadd, 1) := dk_96 (dk_at dksL_law_18 4 rfl rfl)
theorem dL_law_525 : decode cL_law 525 = .ok (.iaload, 1) := dk_46 (dk_at dksL_law_18 5 rfl rfl)
theorem dL_law_526 : decode cL_law 526 = .ok (.aload_n 0, 1) := dk_42 (dk_at dksL_law_18 6 rfl rfl)
theorem dL_law_527 : decode cL_law 527 = .ok (.iload 4, 2) := dk_21 4 (dk_at dksL_law_18 7 rfl rfl)
theorem dL_law_529 : decode cL_law 529 = .ok (.bipush 7, 2) := dk_16 7 (dk_at dksL_law_18 9 rfl rfl)
theorem dL_law_531 : decode cL_law 531 = .ok (.iadd, 1) := dk_96 (dk_at dksL_law_18 11 rfl rfl)
theorem dL_law_532 : decode cL_law 532 = .ok (.iaload, 1) := dk_46 (dk_at dksL_law_18 12 rfl rfl)
theorem dL_law_533 : decode cL_law 533 = .ok (.invokevirtual 62, 3) := dk_182 0 62 (dk_at dksL_law_18 13 rfl rfl)
theorem dL_law_536 : decode cL_law 536 = .ok (.if_icmp .eq 1111, 3) := dk_159 4 87 (dk_at dksL_law_18 16 rfl rfl)
theorem dL_law_539 : decode cL_law 539 = .ok (.iconst 0, 1) := dk_3 (dk_at dksL_law_18 19 rfl rfl)
theorem dL_law_540 : decode cL_law 540 = .ok (.ireturn, 1) := dk_172 (dk_at dksL_law_18 20 rfl rfl)
theorem dL_law_541 : decode cL_law 541 = .ok (.aload_n 1, 1) := dk_43 (dk_at dksL_law_18 21 rfl rfl)
theorem dL_law_542 : decode cL_law 542 = .ok (.aload_n 0, 1) := dk_42 (dk_at dksL_law_18 22 rfl rfl)
theorem dL_law_543 : decode cL_law 543 = .ok (.iload 4, 2) := dk_21 4 (dk_at dksL_law_19 0 rfl rfl)
theorem dL_law_545 : decode cL_law 545 = .ok (.iconst 1, 1) := dk_4 (dk_at dksL_law_19 2 rfl rfl)
theorem dL_law_546 : decode cL_law 546 = .ok (.iadd, 1) := dk_96 (dk_at dksL_law_19 3 rfl rfl)
theorem dL_law_547 : decode cL_law 547 = .ok (.iaload, 1) := dk_46 (dk_at dksL_law_19 4 rfl rfl)
theorem dL_law_548 : decode cL_law 548 = .ok (.aload_n 0, 1) := dk_42 (dk_at dksL_law_19 5 rfl rfl)
theorem dL_law_549 : decode cL_law 549 = .ok (.iload 4, 2) := dk_21 4 (dk_at dksL_law_19 6 rfl rfl)
theorem dL_law_551 : decode cL_law 551 = .ok (.iconst 2, 1) := dk_5 (dk_at dksL_law_19 8 rfl rfl)
theorem dL_law_552 : decode cL_law 552 = .ok (.iadd, 1) := dk_96 (dk_at dksL_law_19 9 rfl rfl)
theorem dL_law_553 : decode cL_law 553 = .ok (.iaload, 1) := dk_46 (dk_at dksL_law_19 10 rfl rfl)
theorem dL_law_554 : decode cL_law 554 = .ok (.invokevirtual 63, 3) := dk_182 0 63 (dk_at dksL_law_19 11 rfl rfl)
theorem dL_law_557 : decode cL_law 557 = .ok (.aload_n 2, 1) := dk_44 (dk_at dksL_law_19 14 rfl rfl)
theorem dL_law_558 : decode cL_law 558 = .ok (.aload_n 0, 1) := dk_42 (dk_at dksL_law_19 15 rfl rfl)
theorem dL_law_559 : decode cL_law 559 = .ok (.iload 4, 2) := dk_21 4 (dk_at dksL_law_19 16 rfl rfl)
theorem dL_law_561 : decode cL_law 561 = .ok (.iconst 1, 1) := dk_4 (dk_at dksL_law_19 18 rfl rfl)
theorem dL_law_562 : decode cL_law 562 = .ok (.iadd, 1) := dk_96 (dk_at dksL_law_19 19 rfl rfl)
theorem dL_law_563 : decode cL_law 563 = .ok (.iaload, 1) := dk_46 (dk_at dksL_law_19 20 rfl rfl)
theorem dL_law_564 : decode cL_law 564 = .ok (.aload_n 0, 1) := dk_42 (dk_at dksL_law_19 21 rfl rfl)
theorem dL_law_565 : decode cL_law 565 = .ok (.iload 4, 2) := dk_21 4 (dk_at dksL_law_19 22 rfl rfl)
theorem dL_law_567 : decode cL_law 567 = .ok (.iconst 2, 1) := dk_5 (dk_at dksL_law_20 0 rfl rfl)
theorem dL_law_568 : decode cL_law 568 = .ok (.iadd, 1) := dk_96 (dk_at dksL_law_20 1 rfl rfl)
theorem dL_law_569 : decode cL_law 569 = .ok (.iaload, 1) := dk_46 (dk_at dksL_law_20 2 rfl rfl)
theorem dL_law_570 : decode cL_law 570 = .ok (.invokevirtual 66, 3) := dk_182 0 66 (dk_at dksL_law_20 3 rfl rfl)
theorem dL_law_573 : decode cL_law 573 = .ok (.if_icmp .eq 1074, 3) := dk_159 4 50 (dk_at dksL_law_20 6 rfl rfl)
theorem dL_law_576 : decode cL_law 576 = .ok (.iconst 0, 1) := dk_3 (dk_at dksL_law_20 9 rfl rfl)
theorem dL_law_577 : decode cL_law 577 = .ok (.ireturn, 1) := dk_172 (dk_at dksL_law_20 10 rfl rfl)
theorem dL_law_578 : decode cL_law 578 = .ok (.aload_n 1, 1) := dk_43 (dk_at dksL_law_20 11 rfl rfl)
theorem dL_law_579 : decode cL_law 579 = .ok (.aload_n 0, 1) := dk_42 (dk_at dksL_law_20 12 rfl rfl)
theorem dL_law_580 : decode cL_law 580 = .ok (.iload 4, 2) := dk_21 4 (dk_at dksL_law_20 13 rfl rfl)
theorem dL_law_582 : decode cL_law 582 = .ok (.iconst 1, 1) := dk_4 (dk_at dksL_law_20 15 rfl rfl)
theorem dL_law_583 : decode cL_law 583 = .ok (.iadd, 1) := dk_96 (dk_at dksL_law_20 16 rfl rfl)
theorem dL_law_584 : decode cL_law 584 = .ok (.iaload, 1) := dk_46 (dk_at dksL_law_20 17 rfl rfl)
theorem dL_law_585 : decode cL_law 585 = .ok (.i2l, 1) := dk_133 (dk_at dksL_law_20 18 rfl rfl)
theorem dL_law_586 : decode cL_law 586 = .ok (.bipush 32, 2) := dk_16 32 (dk_at dksL_law_20 19 rfl rfl)
theorem dL_law_588 : decode cL_law 588 = .ok (.lshl, 1) := dk_121 (dk_at dksL_law_20 21 rfl rfl)
theorem dL_law_589 : decode cL_law 589 = .ok (.aload_n 0, 1) := dk_42 (dk_at dksL_law_20 22 rfl rfl)
theorem dL_law_590 : decode cL_law 590 = .ok (.iload 4, 2) := dk_21 4 (dk_at dksL_law_21 0 rfl rfl)
theorem dL_law_592 : decode cL_law 592 = .ok (.iconst 2, 1) := dk_5 (dk_at dksL_law_21 2 rfl rfl)
theorem dL_law_593 : decode cL_law 593 = .ok (.iadd, 1) := dk_96 (dk_at dksL_law_21 3 rfl rfl)
theorem dL_law_594 : decode cL_law 594 = .ok (.iaload, 1) := dk_46 (dk_at dksL_law_21 4 rfl rfl)
theorem dL_law_595 : decode cL_law 595 = .ok (.i2l, 1) := dk_133 (dk_at dksL_law_21 5 rfl rfl)
theorem dL_law_596 : decode cL_law 596 = .ok (.ldc2_w 67, 3) := dk_20 0 67 (dk_at dksL_law_21 6 rfl rfl)
theorem dL_law_599 : decode cL_law 599 = .ok (.land, 1) := dk_127 (dk_at dksL_law_21 9 rfl rfl)
theorem dL_law_600 : decode cL_law 600 = .ok (.lor, 1) := dk_129 (dk_at dksL_law_21 10 rfl rfl)
theorem dL_law_601 : decode cL_law 601 = .ok (.aload_n 0, 1) := dk_42 (dk_at dksL_law_21 11 rfl rfl)
theorem dL_law_602 : decode cL_law 602 = .ok (.iload 4, 2) := dk_21 4 (dk_at dksL_law_21 12 rfl rfl)
theorem dL_law_604 : decode cL_law 604 = .ok (.iconst 3, 1) := dk_6 (dk_at dksL_law_21 14 rfl rfl)
theorem dL_law_605 : decode cL_law 605 = .ok (.iadd, 1) := dk_96 (dk_at dksL_law_21 15 rfl rfl)
theorem dL_law_606 : decode cL_law 606 = .ok (.iaload, 1) := dk_46 (dk_at dksL_law_21 16 rfl rfl)
theorem dL_law_607 : decode cL_law 607 = .ok (.i2l, 1) := dk_133 (dk_at dksL_law_21 17 rfl rfl)
theorem dL_law_608 : decode cL_law 608 = .ok (.bipush 32, 2) := dk_16 32 (dk_at dksL_law_21 18 rfl rfl)
theorem dL_law_610 : decode cL_law 610 = .ok (.lshl, 1) := dk_121 (dk_at dksL_law_21 20 rfl rfl)
theorem dL_law_611 : decode cL_law 611 = .ok (.aload_n 0, 1) := dk_42 (dk_at dksL_law_21 21 rfl rfl)
theorem dL_law_612 : decode cL_law 612 = .ok (.iload 4, 2) := dk_21 4 (dk_at dksL_law_21 22 rfl rfl)
theorem dL_law_614 : decode cL_law 614 = .ok (.iconst 4, 1) := dk_7 (dk_at dksL_law_22 0 rfl rfl)
theorem dL_law_615 : decode cL_law 615 = .ok (.iadd, 1) := dk_96 (dk_at dksL_law_22 1 rfl rfl)
theorem dL_law_616 : decode cL_law 616 = .ok (.iaload, 1) := dk_46 (dk_at dksL_law_22 2 rfl rfl)
theorem dL_law_617 : decode cL_law 617 = .ok (.i2l, 1) := dk_133 (dk_at dksL_law_22 3 rfl rfl)
theorem dL_law_618 : decode cL_law 618 = .ok (.ldc2_w 67, 3) := dk_20 0 67 (dk_at dksL_law_22 4 rfl rfl)
theorem dL_law_621 : decode cL_law 621 = .ok (.land, 1) := dk_127 (dk_at dksL_law_22 7 rfl rfl)
theorem dL_law_622 : decode cL_law 622 = .ok (.lor, 1) := dk_129 (dk_at dksL_law_22 8 rfl rfl)
theorem dL_law_623 : decode cL_law 623 = .ok (.aload_n 0, 1) := dk_42 (dk_at dksL_law_22 9 rfl rfl)
theorem dL_law_624 : decode cL_law 624 = .ok (.iload 4, 2) := dk_21 4 (dk_at dksL_law_22 10 rfl rfl)
theorem dL_law_626 : decode cL_law 626 = .ok (.iconst 5, 1) := dk_8 (dk_at dksL_law_22 12 rfl rfl)
theorem dL_law_627 : decode cL_law 627 = .ok (.iadd, 1) := dk_96 (dk_at dksL_law_22 13 rfl rfl)
theorem dL_law_628 : decode cL_law 628 = .ok (.iaload, 1) := dk_46 (dk_at dksL_law_22 14 rfl rfl)
theorem dL_law_629 : decode cL_law 629 = .ok (.i2l, 1) := dk_133 (dk_at dksL_law_22 15 rfl rfl)
theorem dL_law_630 : decode cL_law 630 = .ok (.bipush 32, 2) := dk_16 32 (dk_at dksL_law_22 16 rfl rfl)
theorem dL_law_632 : decode cL_law 632 = .ok (.lshl, 1) := dk_121 (dk_at dksL_law_22 18 rfl rfl)
theorem dL_law_633 : decode cL_law 633 = .ok (.aload_n 0, 1) := dk_42 (dk_at dksL_law_22 19 rfl rfl)
theorem dL_law_634 : decode cL_law 634 = .ok (.iload 4, 2) := dk_21 4 (dk_at dksL_law_22 20 rfl rfl)
theorem dL_law_636 : decode cL_law 636 = .ok (.bipush 6, 2) := dk_16 6 (dk_at dksL_law_22 22 rfl rfl)
theorem dL_law_638 : decode cL_law 638 = .ok (.iadd, 1) := dk_96 (dk_at dksL_law_23 0 rfl rfl)
theorem dL_law_639 : decode cL_law 639 = .ok (.iaload, 1) := dk_46 (dk_at dksL_law_23 1 rfl rfl)
theorem dL_law_640 : decode cL_law 640 = .ok (.i2l, 1) := dk_133 (dk_at dksL_law_23 2 rfl rfl)
theorem dL_law_641 : decode cL_law 641 = .ok (.ldc2_w 67, 3) := dk_20 0 67 (dk_at dksL_law_23 3 rfl rfl)
theorem dL_law_644 : decode cL_law 644 = .ok (.land, 1) := dk_127 (dk_at dksL_law_23 6 rfl rfl)
theorem dL_law_645 : decode cL_law 645 = .ok (.lor, 1) := dk_129 (dk_at dksL_law_23 7 rfl rfl)
theorem dL_law_646 : decode cL_law 646 = .ok (.invokevirtual 69, 3) := dk_182 0 69 (dk_at dksL_law_23 8 rfl rfl)
theorem dL_law_649 : decode cL_law 649 = .ok (.aload_n 2, 1) := dk_44 (dk_at dksL_law_23 11 rfl rfl)
theorem dL_law_650 : decode cL_law 650 = .ok (.aload_n 0, 1) := dk_42 (dk_at dksL_law_23 12 rfl rfl)
theorem dL_law_651 : decode cL_law 651 = .ok (.iload 4, 2) := dk_21 4 (dk_at dksL_law_23 13 rfl rfl)
theorem dL_law_653 : decode cL_law 653 = .ok (.iconst 1, 1) := dk_4 (dk_at dksL_law_23 15 rfl rfl)
theorem dL_law_654 : decode cL_law 654 = .ok (.iadd, 1) := dk_96 (dk_at dksL_law_23 16 rfl rfl)
theorem dL_law_655 : decode cL_law 655 = .ok (.iaload, 1) := dk_46 (dk_at dksL_law_23 17 rfl rfl)
theorem dL_law_656 : decode cL_law 656 = .ok (.i2l, 1) := dk_133 (dk_at dksL_law_23 18 rfl rfl)
theorem dL_law_657 : decode cL_law 657 = .ok (.bipush 32, 2) := dk_16 32 (dk_at dksL_law_23 19 rfl rfl)
theorem dL_law_659 : decode cL_law 659 = .ok (.lshl, 1) := dk_121 (dk_at dksL_law_23 21 rfl rfl)
theorem dL_law_660 : decode cL_law 660 = .ok (.aload_n 0, 1) := dk_42 (dk_at dksL_law_23 22 rfl rfl)
theorem dL_law_661 : decode cL_law 661 = .ok (.iload 4, 2) := dk_21 4 (dk_at dksL_law_24 0 rfl rfl)
theorem dL_law_663 : decode cL_law 663 = .ok (.iconst 2, 1) := dk_5 (dk_at dksL_law_24 2 rfl rfl)
theorem dL_law_664 : decode cL_law 664 = .ok (.iadd, 1) := dk_96 (dk_at dksL_law_24 3 rfl rfl)
theorem dL_law_665 : decode cL_law 665 = .ok (.iaload, 1) := dk_46 (dk_at dksL_law_24 4 rfl rfl)
theorem dL_law_666 : decode cL_law 666 = .ok (.i2l, 1) := dk_133 (dk_at dksL_law_24 5 rfl rfl)
theorem dL_law_667 : decode cL_law 667 = .ok (.ldc2_w 67, 3) := dk_20 0 67 (dk_at dksL_law_24 6 rfl rfl)
theorem dL_law_670 : decode cL_law 670 = .ok (.land, 1) := dk_127 (dk_at dksL_law_24 9 rfl rfl)
theorem dL_law_671 : decode cL_law 671 = .ok (.lor, 1) := dk_129 (dk_at dksL_law_24 10 rfl rfl)
theorem dL_law_672 : decode cL_law 672 = .ok (.aload_n 0, 1) := dk_42 (dk_at dksL_law_24 11 rfl rfl)
theorem dL_law_673 : decode cL_law 673 = .ok (.iload 4, 2) := dk_21 4 (dk_at dksL_law_24 12 rfl rfl)
theorem dL_law_675 : decode cL_law 675 = .ok (.iconst 3, 1) := dk_6 (dk_at dksL_law_24 14 rfl rfl)
theorem dL_law_676 : decode cL_law 676 = .ok (.iadd, 1) := dk_96 (dk_at dksL_law_24 15 rfl rfl)
theorem dL_law_677 : decode cL_law 677 = .ok (.iaload, 1) := dk_46 (dk_at dksL_law_24 16 rfl rfl)
theorem dL_law_678 : decode cL_law 678 = .ok (.i2l, 1) := dk_133 (dk_at dksL_law_24 17 rfl rfl)
theorem dL_law_679 : decode cL_law 679 = .ok (.bipush 32, 2) := dk_16 32 (dk_at dksL_law_24 18 rfl rfl)
theorem dL_law_681 : decode cL_law 681 = .ok (.lshl, 1) := dk_121 (dk_at dksL_law_24 20 rfl rfl)
theorem dL_law_682 : decode cL_law 682 = .ok (.aload_n 0, 1) := dk_42 (dk_at dksL_law_24 21 rfl rfl)
theorem dL_law_683 : decode cL_law 683 = .ok (.iload 4, 2) := dk_21 4 (dk_at dksL_law_24 22 rfl rfl)
theorem dL_law_685 : decode cL_law 685 = .ok (.iconst 4, 1) := dk_7 (dk_at dksL_law_25 0 rfl rfl)
theorem dL_law_686 : decode cL_law 686 = .ok (.iadd, 1) := dk_96 (dk_at dksL_law_25 1 rfl rfl)
theorem dL_law_687 : decode cL_law 687 = .ok (.iaload, 1) := dk_46 (dk_at dksL_law_25 2 rfl rfl)
theorem dL_law_688 : decode cL_law 688 = .ok (.i2l, 1) := dk_133 (dk_at dksL_law_25 3 rfl rfl)
theorem dL_law_689 : decode cL_law 689 = .ok (.ldc2_w 67, 3) := dk_20 0 67 (dk_at dksL_law_25 4 rfl rfl)
theorem dL_law_692 : decode cL_law 692 = .ok (.land, 1) := dk_127 (dk_at dksL_law_25 7 rfl rfl)
theorem dL_law_693 : decode cL_law 693 = .ok (.lor, 1) := dk_129 (dk_at dksL_law_25 8 rfl rfl)
theorem dL_law_694 : decode cL_law 694 = .ok (.aload_n 0, 1) := dk_42 (dk_at dksL_law_25 9 rfl rfl)
theorem dL_law_695 : decode cL_law 695 = .ok (.iload 4, 2) := dk_21 4 (dk_at dksL_law_25 10 rfl rfl)
theorem dL_law_697 : decode cL_law 697 = .ok (.iconst 5, 1) := dk_8 (dk_at dksL_law_25 12 rfl rfl)
theorem dL_law_698 : decode cL_law 698 = .ok (.iadd, 1) := dk_96 (dk_at dksL_law_25 13 rfl rfl)
theorem dL_law_699 : decode cL_law 699 = .ok (.iaload, 1) := dk_46 (dk_at dksL_law_25 14 rfl rfl)
theorem dL_law_700 : decode cL_law 700 = .ok (.i2l, 1) := dk_133 (dk_at dksL_law_25 15 rfl rfl)
theorem dL_law_701 : decode cL_law 701 = .ok (.bipush 32, 2) := dk_16 32 (dk_at dksL_law_25 16 rfl rfl)
theorem dL_law_703 : decode cL_law 703 = .ok (.lshl, 1) := dk_121 (dk_at dksL_law_25 18 rfl rfl)
theorem dL_law_704 : decode cL_law 704 = .ok (.aload_n 0, 1) := dk_42 (dk_at dksL_law_25 19 rfl rfl)
theorem dL_law_705 : decode cL_law 705 = .ok (.iload 4, 2) := dk_21 4 (dk_at dksL_law_25 20 rfl rfl)
theorem dL_law_707 : decode cL_law 707 = .ok (.bipush 6, 2) := dk_16 6 (dk_at dksL_law_25 22 rfl rfl)
theorem dL_law_709 : decode cL_law 709 = .ok (.iadd, 1) := dk_96 (dk_at dksL_law_26 0 rfl rfl)
theorem dL_law_710 : decode cL_law 710 = .ok (.iaload, 1) := dk_46 (dk_at dksL_law_26 1 rfl rfl)
theorem dL_law_711 : decode cL_law 711 = .ok (.i2l, 1) := dk_133 (dk_at dksL_law_26 2 rfl rfl)
theorem dL_law_712 : decode cL_law 712 = .ok (.ldc2_w 67, 3) := dk_20 0 67 (dk_at dksL_law_26 3 rfl rfl)
theorem dL_law_715 : decode cL_law 715 = .ok (.land, 1) := dk_127 (dk_at dksL_law_26 6 rfl rfl)
theorem dL_law_716 : decode cL_law 716 = .ok (.lor, 1) := dk_129 (dk_at dksL_law_26 7 rfl rfl)
theorem dL_law_717 : decode cL_law 717 = .ok (.invokevirtual 73, 3) := dk_182 0 73 (dk_at dksL_law_26 8 rfl rfl)
theorem dL_law_720 : decode cL_law 720 = .ok (.if_icmp .eq 927, 3) := dk_159 3 159 (dk_at dksL_law_26 11 rfl rfl)
theorem dL_law_723 : decode cL_law 723 = .ok (.iconst 0, 1) := dk_3 (dk_at dksL_law_26 14 rfl rfl)
theorem dL_law_724 : decode cL_law 724 = .ok (.ireturn, 1) := dk_172 (dk_at dksL_law_26 15 rfl rfl)
theorem dL_law_725 : decode cL_law 725 = .ok (.aload_n 1, 1) := dk_43 (dk_at dksL_law_26 16 rfl rfl)
theorem dL_law_726 : decode cL_law 726 = .ok (.aload_n 0, 1) := dk_42 (dk_at dksL_law_26 17 rfl rfl)
theorem dL_law_727 : decode cL_law 727 = .ok (.iload 4, 2) := dk_21 4 (dk_at dksL_law_26 18 rfl rfl)
theorem dL_law_729 : decode cL_law 729 = .ok (.iconst 1, 1) := dk_4 (dk_at dksL_law_26 20 rfl rfl)
theorem dL_law_730 : decode cL_law 730 = .ok (.iadd, 1) := dk_96 (dk_at dksL_law_26 21 rfl rfl)
theorem dL_law_731 : decode cL_law 731 = .ok (.iaload, 1) := dk_46 (dk_at dksL_law_26 22 rfl rfl)
theorem dL_law_732 : decode cL_law 732 = .ok (.aload_n 0, 1) := dk_42 (dk_at dksL_law_26 23 rfl rfl)
theorem dL_law_733 : decode cL_law 733 = .ok (.iload 4, 2) := dk_21 4 (dk_at dksL_law_27 0 rfl rfl)
theorem dL_law_735 : decode cL_law 735 = .ok (.iconst 2, 1) := dk_5 (dk_at dksL_law_27 2 rfl rfl)
theorem dL_law_736 : decode cL_law 736 = .ok (.iadd, 1) := dk_96 (dk_at dksL_law_27 3 rfl rfl)
theorem dL_law_737 : decode cL_law 737 = .ok (.iaload, 1) := dk_46 (dk_at dksL_law_27 4 rfl rfl)
theorem dL_law_738 : decode cL_law 738 = .ok (.invokevirtual 74, 3) := dk_182 0 74 (dk_at dksL_law_27 5 rfl rfl)
theorem dL_law_741 : decode cL_law 741 = .ok (.aload_n 2, 1) := dk_44 (dk_at dksL_law_27 8 rfl rfl)
theorem dL_law_742 : decode cL_law 742 = .ok (.aload_n 0, 1) := dk_42 (dk_at dksL_law_27 9 rfl rfl)
theorem dL_law_743 : decode cL_law 743 = .ok (.iload 4, 2) := dk_21 4 (dk_at dksL_law_27 10 rfl rfl)
theorem dL_law_745 : decode cL_law 745 = .ok (.iconst 1, 1) := dk_4 (dk_at dksL_law_27 12 rfl rfl)
theorem dL_law_746 : decode cL_law 746 = .ok (.iadd, 1) := dk_96 (dk_at dksL_law_27 13 rfl rfl)
theorem dL_law_747 : decode cL_law 747 = .ok (.iaload, 1) := dk_46 (dk_at dksL_law_27 14 rfl rfl)
theorem dL_law_748 : decode cL_law 748 = .ok (.aload_n 0, 1) := dk_42 (dk_at dksL_law_27 15 rfl rfl)
theorem dL_law_749 : decode cL_law 749 = .ok (.iload 4, 2) := dk_21 4 (dk_at dksL_law_27 16 rfl rfl)
theorem dL_law_751 : decode cL_law 751 = .ok (.iconst 2, 1) := dk_5 (dk_at dksL_law_27 18 rfl rfl)
theorem dL_law_752 : decode cL_law 752 = .ok (.iadd, 1) := dk_96 (dk_at dksL_law_27 19 rfl rfl)
theorem dL_law_753 : decode cL_law 753 = .ok (.iaload, 1) := dk_46 (dk_at dksL_law_27 20 rfl rfl)
theorem dL_law_754 : decode cL_law 754 = .ok (.invokevirtual 77, 3) := dk_182 0 77 (dk_at dksL_law_27 21 rfl rfl)
theorem dL_law_757 : decode cL_law 757 = .ok (.if_icmp .eq 890, 3) := dk_159 3 122 (dk_at dksL_law_28 0 rfl rfl)
theorem dL_law_760 : decode cL_law 760 = .ok (.iconst 0, 1) := dk_3 (dk_at dksL_law_28 3 rfl rfl)
theorem dL_law_761 : decode cL_law 761 = .ok (.ireturn, 1) := dk_172 (dk_at dksL_law_28 4 rfl rfl)
theorem dL_law_762 : decode cL_law 762 = .ok (.aload_n 1, 1) := dk_43 (dk_at dksL_law_28 5 rfl rfl)
theorem dL_law_763 : decode cL_law 763 = .ok (.aload_n 0, 1) := dk_42 (dk_at dksL_law_28 6 rfl rfl)
theorem dL_law_764 : decode cL_law 764 = .ok (.iload 4, 2) := dk_21 4 (dk_at dksL_law_28 7 rfl rfl)
theorem dL_law_766 : decode cL_law 766 = .ok (.iconst 1, 1) := dk_4 (dk_at dksL_law_28 9 rfl rfl)
theorem dL_law_767 : decode cL_law 767 = .ok (.iadd, 1) := dk_96 (dk_at dksL_law_28 10 rfl rfl)
theorem dL_law_768 : decode cL_law 768 = .ok (.iaload, 1) := dk_46 (dk_at dksL_law_28 11 rfl rfl)
theorem dL_law_769 : decode cL_law 769 = .ok (.aload_n 0, 1) := dk_42 (dk_at dksL_law_28 12 rfl rfl)
theorem dL_law_770 : decode cL_law 770 = .ok (.iload 4, 2) := dk_21 4 (dk_at dksL_law_28 13 rfl rfl)
theorem dL_law_772 : decode cL_law 772 = .ok (.iconst 2, 1) := dk_5 (dk_at dksL_law_28 15 rfl rfl)
theorem dL_law_773 : decode cL_law 773 = .ok (.iadd, 1) := dk_96 (dk_at dksL_law_28 16 rfl rfl)
theorem dL_law_774 : decode cL_law 774 = .ok (.iaload, 1) := dk_46 (dk_at dksL_law_28 17 rfl rfl)
theorem dL_law_775 : decode cL_law 775 = .ok (.aload_n 3, 1) := dk_45 (dk_at dksL_law_28 18 rfl rfl)
theorem dL_law_776 : decode cL_law 776 = .ok (.invokestatic 78, 3) := dk_184 0 78 (dk_at dksL_law_28 19 rfl rfl)
theorem dL_law_779 : decode cL_law 779 = .ok (.istore 5, 2) := dk_54 5 (dk_at dksL_law_28 22 rfl rfl)
theorem dL_law_781 : decode cL_law 781 = .ok (.aload_n 2, 1) := dk_44 (dk_at dksL_law_29 0 rfl rfl)
theorem dL_law_782 : decode cL_law 782 = .ok (.aload_n 0, 1) := dk_42 (dk_at dksL_law_29 1 rfl rfl)
theorem dL_law_783 : decode cL_law 783 = .ok (.iload 4, 2) := dk_21 4 (dk_at dksL_law_29 2 rfl rfl)
theorem dL_law_785 : decode cL_law 785 = .ok (.iconst 1, 1) := dk_4 (dk_at dksL_law_29 4 rfl rfl)
theorem dL_law_786 : decode cL_law 786 = .ok (.iadd, 1) := dk_96 (dk_at dksL_law_29 5 rfl rfl)
theorem dL_law_787 : decode cL_law 787 = .ok (.iaload, 1) := dk_46 (dk_at dksL_law_29 6 rfl rfl)
theorem dL_law_788 : decode cL_law 788 = .ok (.aload_n 0, 1) := dk_42 (dk_at dksL_law_29 7 rfl rfl)
theorem dL_law_789 : decode cL_law 789 = .ok (.iload 4, 2) := dk_21 4 (dk_at dksL_law_29 8 rfl rfl)
theorem dL_law_791 : decode cL_law 791 = .ok (.iconst 2, 1) := dk_5 (dk_at dksL_law_29 10 rfl rfl)
theorem dL_law_792 : decode cL_law 792 = .ok (.iadd, 1) := dk_96 (dk_at dksL_law_29 11 rfl rfl)
theorem dL_law_793 : decode cL_law 793 = .ok (.iaload, 1) := dk_46 (dk_at dksL_law_29 12 rfl rfl)
theorem dL_law_794 : decode cL_law 794 = .ok (.invokevirtual 83, 3) := dk_182 0 83 (dk_at dksL_law_29 13 rfl rfl)
theorem dL_law_797 : decode cL_law 797 = .ok (.istore 6, 2) := dk_54 6 (dk_at dksL_law_29 16 rfl rfl)
theorem dL_law_799 : decode cL_law 799 = .ok (.aload_n 2, 1) := dk_44 (dk_at dksL_law_29 18 rfl rfl)
theorem dL_law_800 : decode cL_law 800 = .ok (.invokevirtual 84, 3) := dk_182 0 84 (dk_at dksL_law_29 19 rfl rfl)
theorem dL_law_803 : decode cL_law 803 = .ok (.iload 5, 2) := dk_21 5 (dk_at dksL_law_29 22 rfl rfl)
theorem dL_law_805 : decode cL_law 805 = .ok (.if_icmp .eq 5, 3) := dk_159 0 5 (dk_at dksL_law_30 0 rfl rfl)
theorem dL_law_808 : decode cL_law 808 = .ok (.iconst 0, 1) := dk_3 (dk_at dksL_law_30 3 rfl rfl)
theorem dL_law_809 : decode cL_law 809 = .ok (.ireturn, 1) := dk_172 (dk_at dksL_law_30 4 rfl rfl)
theorem dL_law_810 : decode cL_law 810 = .ok (.iload 5, 2) := dk_21 5 (dk_at dksL_law_30 5 rfl rfl)
theorem dL_law_812 : decode cL_law 812 = .ok (.ifCond .ne 15, 3) := dk_154 0 15 (dk_at dksL_law_30 7 rfl rfl)
theorem dL_law_815 : decode cL_law 815 = .ok (.aload_n 3, 1) := dk_45 (dk_at dksL_law_30 10 rfl rfl)
theorem dL_law_816 : decode cL_law 816 = .ok (.iconst 0, 1) := dk_3 (dk_at dksL_law_30 11 rfl rfl)
theorem dL_law_817 : decode cL_law 817 = .ok (.laload, 1) := dk_47 (dk_at dksL_law_30 12 rfl rfl)
theorem dL_law_818 : decode cL_law 818 = .ok (.iload 6, 2) := dk_21 6 (dk_at dksL_law_30 13 rfl rfl)
theorem dL_law_820 : decode cL_law 820 = .ok (.i2l, 1) := dk_133 (dk_at dksL_law_30 15 rfl rfl)
theorem dL_law_821 : decode cL_law 821 = .ok (.lcmp, 1) := dk_148 (dk_at dksL_law_30 16 rfl rfl)
theorem dL_law_822 : decode cL_law 822 = .ok (.ifCond .eq 5, 3) := dk_153 0 5 (dk_at dksL_law_30 17 rfl rfl)
theorem dL_law_825 : decode cL_law 825 = .ok (.iconst 0, 1) := dk_3 (dk_at dksL_law_30 20 rfl rfl)
theorem dL_law_826 : decode cL_law 826 = .ok (.ireturn, 1) := dk_172 (dk_at dksL_law_30 21 rfl rfl)
theorem dL_law_827 : decode cL_law 827 = .ok (.goto 820, 3) := dk_167 3 52 (dk_at dksL_law_31 0 rfl rfl)
theorem dL_law_830 : decode cL_law 830 = .ok (.aload_n 1, 1) := dk_43 (dk_at dksL_law_31 3 rfl rfl)
theorem dL_law_831 : decode cL_law 831 = .ok (.aload_n 0, 1) := dk_42 (dk_at dksL_law_31 4 rfl rfl)
theorem dL_law_832 : decode cL_law 832 = .ok (.iload 4, 2) := dk_21 4 (dk_at dksL_law_31 5 rfl rfl)
theorem dL_law_834 : decode cL_law 834 = .ok (.iconst 1, 1) := dk_4 (dk_at dksL_law_31 7 rfl rfl)
theorem dL_law_835 : decode cL_law 835 = .ok (.iadd, 1) := dk_96 (dk_at dksL_law_31 8 rfl rfl)
theorem dL_law_836 : decode cL_law 836 = .ok (.iaload, 1) := dk_46 (dk_at dksL_law_31 9 rfl rfl)
theorem dL_law_837 : decode cL_law 837 = .ok (.aload_n 3, 1) := dk_45 (dk_at dksL_law_31 10 rfl rfl)
theorem dL_law_838 : decode cL_law 838 = .ok (.invokestatic 88, 3) := dk_184 0 88 (dk_at dksL_law_31 11 rfl rfl)
theorem dL_law_841 : decode cL_law 841 = .ok (.istore 5, 2) := dk_54 5 (dk_at dksL_law_31 14 rfl rfl)
theorem dL_law_843 : decode cL_law 843 = .ok (.aload_n 2, 1) := dk_44 (dk_at dksL_law_31 16 rfl rfl)
theorem dL_law_844 : decode cL_law 844 = .ok (.aload_n 0, 1) := dk_42 (dk_at dksL_law_31 17 rfl rfl)
theorem dL_law_845 : decode cL_law 845 = .ok (.iload 4, 2) := dk_21 4 (dk_at dksL_law_31 18 rfl rfl)
theorem dL_law_847 : decode cL_law 847 = .ok (.iconst 1, 1) := dk_4 (dk_at dksL_law_31 20 rfl rfl)
theorem dL_law_848 : decode cL_law 848 = .ok (.iadd, 1) := dk_96 (dk_at dksL_law_31 21 rfl rfl)
theorem dL_law_849 : decode cL_law 849 = .ok (.iaload, 1) := dk_46 (dk_at dksL_law_31 22 rfl rfl)
theorem dL_law_850 : decode cL_law 850 = .ok (.invokevirtual 91, 3) := dk_182 0 91 (dk_at dksL_law_32 0 rfl rfl)
theorem dL_law_853 : decode cL_law 853 = .ok (.istore 6, 2) := dk_54 6 (dk_at dksL_law_32 3 rfl rfl)
theorem dL_law_855 : decode cL_law 855 = .ok (.aload_n 2, 1) := dk_44 (dk_at dksL_law_32 5 rfl rfl)
theorem dL_law_856 : decode cL_law 856 = .ok (.invokevirtual 84, 3) := dk_182 0 84 (dk_at dksL_law_32 6 rfl rfl)
theorem dL_law_859 : decode cL_law 859 = .ok (.iload 5, 2) := dk_21 5 (dk_at dksL_law_32 9 rfl rfl)
theorem dL_law_861 : decode cL_law 861 = .ok (.if_icmp .eq 5, 3) := dk_159 0 5 (dk_at dksL_law_32 11 rfl rfl)
theorem dL_law_864 : decode cL_law 864 = .ok (.iconst 0, 1) := dk_3 (dk_at dksL_law_32 14 rfl rfl)
theorem dL_law_865 : decode cL_law 865 = .ok (.ireturn, 1) := dk_172 (dk_at dksL_law_32 15 rfl rfl)
theorem dL_law_866 : decode cL_law 866 = .ok (.iload 5, 2) := dk_21 5 (dk_at dksL_law_32 16 rfl rfl)
theorem dL_law_868 : decode cL_law 868 = .ok (.ifCond .ne 15, 3) := dk_154 0 15 (dk_at dksL_law_32 18 rfl rfl)
theorem dL_law_871 : decode cL_law 871 = .ok (.aload_n 3, 1) := dk_45 (dk_at dksL_law_32 21 rfl rfl)
theorem dL_law_872 : decode cL_law 872 = .ok (.iconst 0, 1) := dk_3 (dk_at dksL_law_32 22 rfl rfl)
theorem dL_law_873 : decode cL_law 873 = .ok (.laload, 1) := dk_47 (dk_at dksL_law_32 23 rfl rfl)
theorem dL_law_874 : decode cL_law 874 = .ok (.iload 6, 2) := dk_21 6 (dk_at dksL_law_33 0 rfl rfl)
theorem dL_law_876 : decode cL_law 876 = .ok (.i2l, 1) := dk_133 (dk_at dksL_law_33 2 rfl rfl)
theorem dL_law_877 : decode cL_law 877 = .ok (.lcmp, 1) := dk_148 (dk_at dksL_law_33 3 rfl rfl)
theorem dL_law_878 : decode cL_law 878 = .ok (.ifCond .eq 5, 3) := dk_153 0 5 (dk_at dksL_law_33 4 rfl rfl)
theorem dL_law_881 : decode cL_law 881 = .ok (.iconst 0, 1) := dk_3 (dk_at dksL_law_33 7 rfl rfl)
theorem dL_law_882 : decode cL_law 882 = .ok (.ireturn, 1) := dk_172 (dk_at dksL_law_33 8 rfl rfl)
theorem dL_law_883 : decode cL_law 883 = .ok (.goto 764, 3) := dk_167 2 252 (dk_at dksL_law_33 9 rfl rfl)
theorem dL_law_886 : decode cL_law 886 = .ok (.aload_n 1, 1) := dk_43 (dk_at dksL_law_33 12 rfl rfl)
theorem dL_law_887 : decode cL_law 887 = .ok (.aload_n 0, 1) := dk_42 (dk_at dksL_law_33 13 rfl rfl)
theorem dL_law_888 : decode cL_law 888 = .ok (.iload 4, 2) := dk_21 4 (dk_at dksL_law_33 14 rfl rfl)
theorem dL_law_890 : decode cL_law 890 = .ok (.iconst 1, 1) := dk_4 (dk_at dksL_law_33 16 rfl rfl)
theorem dL_law_891 : decode cL_law 891 = .ok (.iadd, 1) := dk_96 (dk_at dksL_law_33 17 rfl rfl)
theorem dL_law_892 : decode cL_law 892 = .ok (.iaload, 1) := dk_46 (dk_at dksL_law_33 18 rfl rfl)
theorem dL_law_893 : decode cL_law 893 = .ok (.aload_n 0, 1) := dk_42 (dk_at dksL_law_33 19 rfl rfl)
theorem dL_law_894 : decode cL_law 894 = .ok (.iload 4, 2) := dk_21 4 (dk_at dksL_law_33 20 rfl rfl)
theorem dL_law_896 : decode cL_law 896 = .ok (.iconst 2, 1) := dk_5 (dk_at dksL_law_33 22 rfl rfl)
theorem dL_law_897 : decode cL_law 897 = .ok (.iadd, 1) := dk_96 (dk_at dksL_law_33 23 rfl rfl)
theorem dL_law_898 : decode cL_law 898 = .ok (.iaload, 1) := dk_46 (dk_at dksL_law_34 0 rfl rfl)
theorem dL_law_899 : decode cL_law 899 = .ok (.invokevirtual 92, 3) := dk_182 0 92 (dk_at dksL_law_34 1 rfl rfl)
theorem dL_law_902 : decode cL_law 902 = .ok (.aload_n 2, 1) := dk_44 (dk_at dksL_law_34 4 rfl rfl)
theorem dL_law_903 : decode cL_law 903 = .ok (.aload_n 0, 1) := dk_42 (dk_at dksL_law_34 5 rfl rfl)
theorem dL_law_904 : decode cL_law 904 = .ok (.iload 4, 2) := dk_21 4 (dk_at dksL_law_34 6 rfl rfl)
theorem dL_law_906 : decode cL_law 906 = .ok (.iconst 1, 1) := dk_4 (dk_at dksL_law_34 8 rfl rfl)
theorem dL_law_907 : decode cL_law 907 = .ok (.iadd, 1) := dk_96 (dk_at dksL_law_34 9 rfl rfl)
theorem dL_law_908 : decode cL_law 908 = .ok (.iaload, 1) := dk_46 (dk_at dksL_law_34 10 rfl rfl)
theorem dL_law_909 : decode cL_law 909 = .ok (.aload_n 0, 1) := dk_42 (dk_at dksL_law_34 11 rfl rfl)
theorem dL_law_910 : decode cL_law 910 = .ok (.iload 4, 2) := dk_21 4 (dk_at dksL_law_34 12 rfl rfl)
theorem dL_law_912 : decode cL_law 912 = .ok (.iconst 2, 1) := dk_5 (dk_at dksL_law_34 14 rfl rfl)
theorem dL_law_913 : decode cL_law 913 = .ok (.iadd, 1) := dk_96 (dk_at dksL_law_34 15 rfl rfl)
theorem dL_law_914 : decode cL_law 914 = .ok (.iaload, 1) := dk_46 (dk_at dksL_law_34 16 rfl rfl)
theorem dL_law_915 : decode cL_law 915 = .ok (.invokevirtual 95, 3) := dk_182 0 95 (dk_at dksL_law_34 17 rfl rfl)
theorem dL_law_918 : decode cL_law 918 = .ok (.if_icmp .eq 729, 3) := dk_159 2 217 (dk_at dksL_law_34 20 rfl rfl)
theorem dL_law_921 : decode cL_law 921 = .ok (.iconst 0, 1) := dk_3 (dk_at dksL_law_34 23 rfl rfl)
theorem dL_law_922 : decode cL_law 922 = .ok (.ireturn, 1) := dk_172 (dk_at dksL_law_35 0 rfl rfl)
theorem dL_law_923 : decode cL_law 923 = .ok (.aload_n 1, 1) := dk_43 (dk_at dksL_law_35 1 rfl rfl)
theorem dL_law_924 : decode cL_law 924 = .ok (.aload_n 0, 1) := dk_42 (dk_at dksL_law_35 2 rfl rfl)
theorem dL_law_925 : decode cL_law 925 = .ok (.iload 4, 2) := dk_21 4 (dk_at dksL_law_35 3 rfl rfl)
theorem dL_law_927 : decode cL_law 927 = .ok (.iconst 1, 1) := dk_4 (dk_at dksL_law_35 5 rfl rfl)
theorem dL_law_928 : decode cL_law 928 = .ok (.iadd, 1) := dk_96 (dk_at dksL_law_35 6 rfl rfl)
theorem dL_law_929 : decode cL_law 929 = .ok (.iaload, 1) := dk_46 (dk_at dksL_law_35 7 rfl rfl)
theorem dL_law_930 : decode cL_law 930 = .ok (.aload_n 0, 1) := dk_42 (dk_at dksL_law_35 8 rfl rfl)
theorem dL_law_931 : decode cL_law 931 = .ok (.iload 4, 2) := dk_21 4 (dk_at dksL_law_35 9 rfl rfl)
theorem dL_law_933 : decode cL_law 933 = .ok (.iconst 2, 1) := dk_5 (dk_at dksL_law_35 11 rfl rfl)
theorem dL_law_934 : decode cL_law 934 = .ok (.iadd, 1) := dk_96 (dk_at dksL_law_35 12 rfl rfl)
theorem dL_law_935 : decode cL_law 935 = .ok (.iaload, 1) := dk_46 (dk_at dksL_law_35 13 rfl rfl)
theorem dL_law_936 : decode cL_law 936 = .ok (.aload_n 0, 1) := dk_42 (dk_at dksL_law_35 14 rfl rfl)
theorem dL_law_937 : decode cL_law 937 = .ok (.iload 4, 2) := dk_21 4 (dk_at dksL_law_35 15 rfl rfl)
theorem dL_law_939 : decode cL_law 939 = .ok (.iconst 3, 1) := dk_6 (dk_at dksL_law_35 17 rfl rfl)
theorem dL_law_940 : decode cL_law 940 = .ok (.iadd, 1) := dk_96 (dk_at dksL_law_35 18 rfl rfl)
theorem dL_law_941 : decode cL_law 941 = .ok (.iaload, 1) := dk_46 (dk_at dksL_law_35 19 rfl rfl)
theorem dL_law_942 : decode cL_law 942 = .ok (.invokevirtual 96, 3) := dk_182 0 96 (dk_at dksL_law_35 20 rfl rfl)
theorem dL_law_945 : decode cL_law 945 = .ok (.aload_n 2, 1) := dk_44 (dk_at dksL_law_35 23 rfl rfl)
theorem dL_law_946 : decode cL_law 946 = .ok (.aload_n 0, 1) := dk_42 (dk_at dksL_law_36 0 rfl rfl)
theorem dL_law_947 : decode cL_law 947 = .ok (.iload 4, 2) := dk_21 4 (dk_at dksL_law_36 1 rfl rfl)
theorem dL_law_949 : decode cL_law 949 = .ok (.iconst 1, 1) := dk_4 (dk_at dksL_law_36 3 rfl rfl)
theorem dL_law_950 : decode cL_law 950 = .ok (.iadd, 1) := dk_96 (dk_at dksL_law_36 4 rfl rfl)
theorem dL_law_951 : decode cL_law 951 = .ok (.iaload, 1) := dk_46 (dk_at dksL_law_36 5 rfl rfl)
theorem dL_law_952 : decode cL_law 952 = .ok (.aload_n 0, 1) := dk_42 (dk_at dksL_law_36 6 rfl rfl)
theorem dL_law_953 : decode cL_law 953 = .ok (.iload 4, 2) := dk_21 4 (dk_at dksL_law_36 7 rfl rfl)
theorem dL_law_955 : decode cL_law 955 = .ok (.iconst 2, 1) := dk_5 (dk_at dksL_law_36 9 rfl rfl)
theorem dL_law_956 : decode cL_law 956 = .ok (.iadd, 1) := dk_96 (dk_at dksL_law_36 10 rfl rfl)
theorem dL_law_957 : decode cL_law 957 = .ok (.iaload, 1) := dk_46 (dk_at dksL_law_36 11 rfl rfl)
theorem dL_law_958 : decode cL_law 958 = .ok (.aload_n 0, 1) := dk_42 (dk_at dksL_law_36 12 rfl rfl)
theorem dL_law_959 : decode cL_law 959 = .ok (.iload 4, 2) := dk_21 4 (dk_at dksL_law_36 13 rfl rfl)
theorem dL_law_961 : decode cL_law 961 = .ok (.iconst 3, 1) := dk_6 (dk_at dksL_law_36 15 rfl rfl)
theorem dL_law_962 : decode cL_law 962 = .ok (.iadd, 1) := dk_96 (dk_at dksL_law_36 16 rfl rfl)
theorem dL_law_963 : decode cL_law 963 = .ok (.iaload, 1) := dk_46 (dk_at dksL_law_36 17 rfl rfl)
theorem dL_law_964 : decode cL_law 964 = .ok (.invokevirtual 99, 3) := dk_182 0 99 (dk_at dksL_law_36 18 rfl rfl)
theorem dL_law_967 : decode cL_law 967 = .ok (.if_icmp .eq 680, 3) := dk_159 2 168 (dk_at dksL_law_36 21 rfl rfl)
theorem dL_law_970 : decode cL_law 970 = .ok (.iconst 0, 1) := dk_3 (dk_at dksL_law_37 0 rfl rfl)
theorem dL_law_971 : decode cL_law 971 = .ok (.ireturn, 1) := dk_172 (dk_at dksL_law_37 1 rfl rfl)
theorem dL_law_972 : decode cL_law 972 = .ok (.aload_n 1, 1) := dk_43 (dk_at dksL_law_37 2 rfl rfl)
theorem dL_law_973 : decode cL_law 973 = .ok (.aload_n 0, 1) := dk_42 (dk_at dksL_law_37 3 rfl rfl)
theorem dL_law_974 : decode cL_law 974 = .ok (.iload 4, 2) := dk_21 4 (dk_at dksL_law_37 4 rfl rfl)
theorem dL_law_976 : decode cL_law 976 = .ok (.iconst 1, 1) := dk_4 (dk_at dksL_law_37 6 rfl rfl)
theorem dL_law_977 : decode cL_law 977 = .ok (.iadd, 1) := dk_96 (dk_at dksL_law_37 7 rfl rfl)
theorem dL_law_978 : decode cL_law 978 = .ok (.iaload, 1) := dk_46 (dk_at dksL_law_37 8 rfl rfl)
theorem dL_law_979 : decode cL_law 979 = .ok (.aload_n 3, 1) := dk_45 (dk_at dksL_law_37 9 rfl rfl)
theorem dL_law_980 : decode cL_law 980 = .ok (.invokestatic 100, 3) := dk_184 0 100 (dk_at dksL_law_37 10 rfl rfl)
theorem dL_law_983 : decode cL_law 983 = .ok (.istore 5, 2) := dk_54 5 (dk_at dksL_law_37 13 rfl rfl)
theorem dL_law_985 : decode cL_law 985 = .ok (.aload_n 2, 1) := dk_44 (dk_at dksL_law_37 15 rfl rfl)
theorem dL_law_986 : decode cL_law 986 = .ok (.aload_n 0, 1) := dk_42 (dk_at dksL_law_37 16 rfl rfl)
theorem dL_law_987 : decode cL_law 987 = .ok (.iload 4, 2) := dk_21 4 (dk_at dksL_law_37 17 rfl rfl)
theorem dL_law_989 : decode cL_law 989 = .ok (.iconst 1, 1) := dk_4 (dk_at dksL_law_37 19 rfl rfl)
theorem dL_law_990 : decode cL_law 990 = .ok (.iadd, 1) := dk_96 (dk_at dksL_law_37 20 rfl rfl)
theorem dL_law_991 : decode cL_law 991 = .ok (.iaload, 1) := dk_46 (dk_at dksL_law_37 21 rfl rfl)
theorem dL_law_992 : decode cL_law 992 = .ok (.invokevirtual 102, 3) := dk_182 0 102 (dk_at dksL_law_38 0 rfl rfl)
theorem dL_law_995 : decode cL_law 995 = .ok (.istore 6, 2) := dk_54 6 (dk_at dksL_law_38 3 rfl rfl)
theorem dL_law_997 : decode cL_law 997 = .ok (.aload_n 2, 1) := dk_44 (dk_at dksL_law_38 5 rfl rfl)
theorem dL_law_998 : decode cL_law 998 = .ok (.invokevirtual 84, 3) := dk_182 0 84 (dk_at dksL_law_38 6 rfl rfl)
theorem dL_law_1001 : decode cL_law 1001 = .ok (.iload 5, 2) := dk_21 5 (dk_at dksL_law_38 9 rfl rfl)
theorem dL_law_1003 : decode cL_law 1003 = .ok (.if_icmp .eq 5, 3) := dk_159 0 5 (dk_at dksL_law_38 11 rfl rfl)
theorem dL_law_1006 : decode cL_law 1006 = .ok (.iconst 0, 1) := dk_3 (dk_at dksL_law_38 14 rfl rfl)
theorem dL_law_1007 : decode cL_law 1007 = .ok (.ireturn, 1) := dk_172 (dk_at dksL_law_38 15 rfl rfl)
theorem dL_law_1008 : decode cL_law 1008 = .ok (.iload 5, 2) := dk_21 5 (dk_at dksL_law_38 16 rfl rfl)
theorem dL_law_1010 : decode cL_law 1010 = .ok (.ifCond .ne 15, 3) := dk_154 0 15 (dk_at dksL_law_38 18 rfl rfl)
theorem dL_law_1013 : decode cL_law 1013 = .ok (.aload_n 3, 1) := dk_45 (dk_at dksL_law_38 21 rfl rfl)
theorem dL_law_1014 : decode cL_law 1014 = .ok (.iconst 0, 1) := dk_3 (dk_at dksL_law_38 22 rfl rfl)
theorem dL_law_1015 : decode cL_law 1015 = .ok (.laload, 1) := dk_47 (dk_at dksL_law_38 23 rfl rfl)
theorem dL_law_1016 : decode cL_law 1016 = .ok (.iload 6, 2) := dk_21 6 (dk_at dksL_law_39 0 rfl rfl)
theorem dL_law_1018 : decode cL_law 1018 = .ok (.i2l, 1) := dk_133 (dk_at dksL_law_39 2 rfl rfl)
theorem dL_law_1019 : decode cL_law 1019 = .ok (.lcmp, 1) := dk_148 (dk_at dksL_law_39 3 rfl rfl)
theorem dL_law_1020 : decode cL_law 1020 = .ok (.ifCond .eq 5, 3) := dk_153 0 5 (dk_at dksL_law_39 4 rfl rfl)
theorem dL_law_1023 : decode cL_law 1023 = .ok (.iconst 0, 1) := dk_3 (dk_at dksL_law_39 7 rfl rfl)
theorem dL_law_1024 : decode cL_law 1024 = .ok (.ireturn, 1) := dk_172 (dk_at dksL_law_39 8 rfl rfl)
theorem dL_law_1025 : decode cL_law 1025 = .ok (.goto 622, 3) := dk_167 2 110 (dk_at dksL_law_39 9 rfl rfl)
theorem dL_law_1028 : decode cL_law 1028 = .ok (.aload_n 1, 1) := dk_43 (dk_at dksL_law_39 12 rfl rfl)
theorem dL_law_1029 : decode cL_law 1029 = .ok (.aload_n 0, 1) := dk_42 (dk_at dksL_law_39 13 rfl rfl)
theorem dL_law_1030 : decode cL_law 1030 = .ok (.iload 4, 2) := dk_21 4 (dk_at dksL_law_39 14 rfl rfl)
theorem dL_law_1032 : decode cL_law 1032 = .ok (.iconst 1, 1) := dk_4 (dk_at dksL_law_39 16 rfl rfl)
theorem dL_law_1033 : decode cL_law 1033 = .ok (.iadd, 1) := dk_96 (dk_at dksL_law_39 17 rfl rfl)
theorem dL_law_1034 : decode cL_law 1034 = .ok (.iaload, 1) := dk_46 (dk_at dksL_law_39 18 rfl rfl)
theorem dL_law_1035 : decode cL_law 1035 = .ok (.aload_n 0, 1) := dk_42 (dk_at dksL_law_39 19 rfl rfl)
theorem dL_law_1036 : decode cL_law 1036 = .ok (.iload 4, 2) := dk_21 4 (dk_at dksL_law_39 20 rfl rfl)
theorem dL_law_1038 : decode cL_law 1038 = .ok (.iconst 2, 1) := dk_5 (dk_at dksL_law_39 22 rfl rfl)
theorem dL_law_1039 : decode cL_law 1039 = .ok (.iadd, 1) := dk_96 (dk_at dksL_law_39 23 rfl rfl)
theorem dL_law_1040 : decode cL_law 1040 = .ok (.iaload, 1) := dk_46 (dk_at dksL_law_40 0 rfl rfl)
theorem dL_law_1041 : decode cL_law 1041 = .ok (.invokevirtual 103, 3) := dk_182 0 103 (dk_at dksL_law_40 1 rfl rfl)
theorem dL_law_1044 : decode cL_law 1044 = .ok (.aload_n 2, 1) := dk_44 (dk_at dksL_law_40 4 rfl rfl)
theorem dL_law_1045 : decode cL_law 1045 = .ok (.aload_n 0, 1) := dk_42 (dk_at dksL_law_40 5 rfl rfl)
theorem dL_law_1046 : decode cL_law 1046 = .ok (.iload 4, 2) := dk_21 4 (dk_at dksL_law_40 6 rfl rfl)
theorem dL_law_1048 : decode cL_law 1048 = .ok (.iconst 1, 1) := dk_4 (dk_at dksL_law_40 8 rfl rfl)
theorem dL_law_1049 : decode cL_law 1049 = .ok (.iadd, 1) := dk_96 (dk_at dksL_law_40 9 rfl rfl)
theorem dL_law_1050 : decode cL_law 1050 = .ok (.iaload, 1) := dk_46 (dk_at dksL_law_40 10 rfl rfl)
theorem dL_law_1051 : decode cL_law 1051 = .ok (.aload_n 0, 1) := dk_42 (dk_at dksL_law_40 11 rfl rfl)
theorem dL_law_1052 : decode cL_law 1052 = .ok (.iload 4, 2) := dk_21 4 (dk_at dksL_law_40 12 rfl rfl)
theorem dL_law_1054 : decode cL_law 1054 = .ok (.iconst 2, 1) := dk_5 (dk_at dksL_law_40 14 rfl rfl)
theorem dL_law_1055 : decode cL_law 1055 = .ok (.iadd, 1) := dk_96 (dk_at dksL_law_40 15 rfl rfl)
theorem dL_law_1056 : decode cL_law 1056 = .ok (.iaload, 1) := dk_46 (dk_at dksL_law_40 16 rfl rfl)
theorem dL_law_1057 : decode cL_law 1057 = .ok (.invokevirtual 106, 3) := dk_182 0 106 (dk_at dksL_law_40 17 rfl rfl)
theorem dL_law_1060 : decode cL_law 1060 = .ok (.if_icmp .eq 587, 3) := dk_159 2 75 (dk_at dksL_law_40 20 rfl rfl)
theorem dL_law_1063 : decode cL_law 1063 = .ok (.iconst 0, 1) := dk_3 (dk_at dksL_law_40 23 rfl rfl)
theorem dL_law_1064 : decode cL_law 1064 = .ok (.ireturn, 1) := dk_172 (dk_at dksL_law_41 0 rfl rfl)
theorem dL_law_1065 : decode cL_law 1065 = .ok (.aload_n 1, 1) := dk_43 (dk_at dksL_law_41 1 rfl rfl)
theorem dL_law_1066 : decode cL_law 1066 = .ok (.aload_n 0, 1) := dk_42 (dk_at dksL_law_41 2 rfl rfl)
theorem dL_law_1067 : decode cL_law 1067 = .ok (.iload 4, 2) := dk_21 4 (dk_at dksL_law_41 3 rfl rfl)
theorem dL_law_1069 : decode cL_law 1069 = .ok (.iconst 1, 1) := dk_4 (dk_at dksL_law_41 5 rfl rfl)
theorem dL_law_1070 : decode cL_law 1070 = .ok (.iadd, 1) := dk_96 (dk_at dksL_law_41 6 rfl rfl)
theorem dL_law_1071 : decode cL_law 1071 = .ok (.iaload, 1) := dk_46 (dk_at dksL_law_41 7 rfl rfl)
theorem dL_law_1072 : decode cL_law 1072 = .ok (.aload_n 0, 1) := dk_42 (dk_at dksL_law_41 8 rfl rfl)
theorem dL_law_1073 : decode cL_law 1073 = .ok (.iload 4, 2) := dk_21 4 (dk_at dksL_law_41 9 rfl rfl)
theorem dL_law_1075 : decode cL_law 1075 = .ok (.iconst 2, 1) := dk_5 (dk_at dksL_law_41 11 rfl rfl)
theorem dL_law_1076 : decode cL_law 1076 = .ok (.iadd, 1) := dk_96 (dk_at dksL_law_41 12 rfl rfl)
theorem dL_law_1077 : decode cL_law 1077 = .ok (.iaload, 1) := dk_46 (dk_at dksL_law_41 13 rfl rfl)
theorem dL_law_1078 : decode cL_law 1078 = .ok (.aload_n 0, 1) := dk_42 (dk_at dksL_law_41 14 rfl rfl)
theorem dL_law_1079 : decode cL_law 1079 = .ok (.iload 4, 2) := dk_21 4 (dk_at dksL_law_41 15 rfl rfl)
theorem dL_law_1081 : decode cL_law 1081 = .ok (.iconst 3, 1) := dk_6 (dk_at dksL_law_41 17 rfl rfl)
theorem dL_law_1082 : decode cL_law 1082 = .ok (.iadd, 1) := dk_96 (dk_at dksL_law_41 18 rfl rfl)
theorem dL_law_1083 : decode cL_law 1083 = .ok (.iaload, 1) := dk_46 (dk_at dksL_law_41 19 rfl rfl)
theorem dL_law_1084 : decode cL_law 1084 = .ok (.aload_n 3, 1) := dk_45 (dk_at dksL_law_41 20 rfl rfl)
theorem dL_law_1085 : decode cL_law 1085 = .ok (.invokestatic 107, 3) := dk_184 0 107 (dk_at dksL_law_41 21 rfl rfl)
theorem dL_law_1088 : decode cL_law 1088 = .ok (.istore 5, 2) := dk_54 5 (dk_at dksL_law_42 0 rfl rfl)
theorem dL_law_1090 : decode cL_law 1090 = .ok (.aload_n 2, 1) := dk_44 (dk_at dksL_law_42 2 rfl rfl)
theorem dL_law_1091 : decode cL_law 1091 = .ok (.aload_n 0, 1) := dk_42 (dk_at dksL_law_42 3 rfl rfl)
theorem dL_law_1092 : decode cL_law 1092 = .ok (.iload 4, 2) := dk_21 4 (dk_at dksL_law_42 4 rfl rfl)
theorem dL_law_1094 : decode cL_law 1094 = .ok (.iconst 1, 1) := dk_4 (dk_at dksL_law_42 6 rfl rfl)
theorem dL_law_1095 : decode cL_law 1095 = .ok (.iadd, 1) := dk_96 (dk_at dksL_law_42 7 rfl rfl)
theorem dL_law_1096 : decode cL_law 1096 = .ok (.iaload, 1) := dk_46 (dk_at dksL_law_42 8 rfl rfl)
theorem dL_law_1097 : decode cL_law 1097 = .ok (.aload_n 0, 1) := dk_42 (dk_at dksL_law_42 9 rfl rfl)
theorem dL_law_1098 : decode cL_law 1098 = .ok (.iload 4, 2) := dk_21 4 (dk_at dksL_law_42 10 rfl rfl)
theorem dL_law_1100 : decode cL_law 1100 = .ok (.iconst 2, 1) := dk_5 (dk_at dksL_law_42 12 rfl rfl)
theorem dL_law_1101 : decode cL_law 1101 = .ok (.iadd, 1) := dk_96 (dk_at dksL_law_42 13 rfl rfl)
theorem dL_law_1102 : decode cL_law 1102 = .ok (.iaload, 1) := dk_46 (dk_at dksL_law_42 14 rfl rfl)
theorem dL_law_1103 : decode cL_law 1103 = .ok (.aload_n 0, 1) := dk_42 (dk_at dksL_law_42 15 rfl rfl)
theorem dL_law_1104 : decode cL_law 1104 = .ok (.iload 4, 2) := dk_21 4 (dk_at dksL_law_42 16 rfl rfl)
theorem dL_law_1106 : decode cL_law 1106 = .ok (.iconst 3, 1) := dk_6 (dk_at dksL_law_42 18 rfl rfl)
theorem dL_law_1107 : decode cL_law 1107 = .ok (.iadd, 1) := dk_96 (dk_at dksL_law_42 19 rfl rfl)
theorem dL_law_1108 : decode cL_law 1108 = .ok (.iaload, 1) := dk_46 (dk_at dksL_law_42 20 rfl rfl)
theorem dL_law_1109 : decode cL_law 1109 = .ok (.invokevirtual 110, 3) := dk_182 0 110 (dk_at dksL_law_42 21 rfl rfl)
theorem dL_law_1112 : decode cL_law 1112 = .ok (.istore 6, 2) := dk_54 6 (dk_at dksL_law_43 0 rfl rfl)
theorem dL_law_1114 : decode cL_law 1114 = .ok (.aload_n 2, 1) := dk_44 (dk_at dksL_law_43 2 rfl rfl)
theorem dL_law_1115 : decode cL_law 1115 = .ok (.invokevirtual 84, 3) := dk_182 0 84 (dk_at dksL_law_43 3 rfl rfl)
theorem dL_law_1118 : decode cL_law 1118 = .ok (.iload 5, 2) := dk_21 5 (dk_at dksL_law_43 6 rfl rfl)
theorem dL_law_1120 : decode cL_law 1120 = .ok (.if_icmp .eq 5, 3) := dk_159 0 5 (dk_at dksL_law_43 8 rfl rfl)
theorem dL_law_1123 : decode cL_law 1123 = .ok (.iconst 0, 1) := dk_3 (dk_at dksL_law_43 11 rfl rfl)
theorem dL_law_1124 : decode cL_law 1124 = .ok (.ireturn, 1) := dk_172 (dk_at dksL_law_43 12 rfl rfl)
theorem dL_law_1125 : decode cL_law 1125 = .ok (.iload 5, 2) := dk_21 5 (dk_at dksL_law_43 13 rfl rfl)
theorem dL_law_1127 : decode cL_law 1127 = .ok (.ifCond .ne 15, 3) := dk_154 0 15 (dk_at dksL_law_43 15 rfl rfl)
theorem dL_law_1130 : decode cL_law 1130 = .ok (.aload_n 3, 1) := dk_45 (dk_at dksL_law_43 18 rfl rfl)
theorem dL_law_1131 : decode cL_law 1131 = .ok (.iconst 0, 1) := dk_3 (dk_at dksL_law_43 19 rfl rfl)
theorem dL_law_1132 : decode cL_law 1132 = .ok (.laload, 1) := dk_47 (dk_at dksL_law_43 20 rfl rfl)
theorem dL_law_1133 : decode cL_law 1133 = .ok (.iload 6, 2) := dk_21 6 (dk_at dksL_law_43 21 rfl rfl)
theorem dL_law_1135 : decode cL_law 1135 = .ok (.i2l, 1) := dk_133 (dk_at dksL_law_43 23 rfl rfl)
theorem dL_law_1136 : decode cL_law 1136 = .ok (.lcmp, 1) := dk_148 (dk_at dksL_law_44 0 rfl rfl)
theorem dL_law_1137 : decode cL_law 1137 = .ok (.ifCond .eq 5, 3) := dk_153 0 5 (dk_at dksL_law_44 1 rfl rfl)
theorem dL_law_1140 : decode cL_law 1140 = .ok (.iconst 0, 1) := dk_3 (dk_at dksL_law_44 4 rfl rfl)
theorem dL_law_1141 : decode cL_law 1141 = .ok (.ireturn, 1) := dk_172 (dk_at dksL_law_44 5 rfl rfl)
theorem dL_law_1142 : decode cL_law 1142 = .ok (.goto 505, 3) := dk_167 1 249 (dk_at dksL_law_44 6 rfl rfl)
theorem dL_law_1145 : decode cL_law 1145 = .ok (.aload_n 1, 1) := dk_43 (dk_at dksL_law_44 9 rfl rfl)
theorem dL_law_1146 : decode cL_law 1146 = .ok (.aload_n 0, 1) := dk_42 (dk_at dksL_law_44 10 rfl rfl)
theorem dL_law_1147 : decode cL_law 1147 = .ok (.iload 4, 2) := dk_21 4 (dk_at dksL_law_44 11 rfl rfl)
theorem dL_law_1149 : decode cL_law 1149 = .ok (.iconst 1, 1) := dk_4 (dk_at dksL_law_44 13 rfl rfl)
theorem dL_law_1150 : decode cL_law 1150 = .ok (.iadd, 1) := dk_96 (dk_at dksL_law_44 14 rfl rfl)
theorem dL_law_1151 : decode cL_law 1151 = .ok (.iaload, 1) := dk_46 (dk_at dksL_law_44 15 rfl rfl)
theorem dL_law_1152 : decode cL_law 1152 = .ok (.aload_n 0, 1) := dk_42 (dk_at dksL_law_44 16 rfl rfl)
theorem dL_law_1153 : decode cL_law 1153 = .ok (.iload 4, 2) := dk_21 4 (dk_at dksL_law_44 17 rfl rfl)
theorem dL_law_1155 : decode cL_law 1155 = .ok (.iconst 2, 1) := dk_5 (dk_at dksL_law_44 19 rfl rfl)
theorem dL_law_1156 : decode cL_law 1156 = .ok (.iadd, 1) := dk_96 (dk_at dksL_law_44 20 rfl rfl)
theorem dL_law_1157 : decode cL_law 1157 = .ok (.iaload, 1) := dk_46 (dk_at dksL_law_44 21 rfl rfl)
theorem dL_law_1158 : decode cL_law 1158 = .ok (.aload_n 0, 1) := dk_42 (dk_at dksL_law_44 22 rfl rfl)
theorem dL_law_1159 : decode cL_law 1159 = .ok (.iload 4, 2) := dk_21 4 (dk_at dksL_law_45 0 rfl rfl)
theorem dL_law_1161 : decode cL_law 1161 = .ok (.iconst 3, 1) := dk_6 (dk_at dksL_law_45 2 rfl rfl)
theorem dL_law_1162 : decode cL_law 1162 = .ok (.iadd, 1) := dk_96 (dk_at dksL_law_45 3 rfl rfl)
theorem dL_law_1163 : decode cL_law 1163 = .ok (.iaload, 1) := dk_46 (dk_at dksL_law_45 4 rfl rfl)
theorem dL_law_1164 : decode cL_law 1164 = .ok (.invokevirtual 111, 3) := dk_182 0 111 (dk_at dksL_law_45 5 rfl rfl)
theorem dL_law_1167 : decode cL_law 1167 = .ok (.aload_n 2, 1) := dk_44 (dk_at dksL_law_45 8 rfl rfl)
theorem dL_law_1168 : decode cL_law 1168 = .ok (.aload_n 0, 1) := dk_42 (dk_at dksL_law_45 9 rfl rfl)
theorem dL_law_1169 : decode cL_law 1169 = .ok (.iload 4, 2) := dk_21 4 (dk_at dksL_law_45 10 rfl rfl)
theorem dL_law_1171 : decode cL_law 1171 = .ok (.iconst 1, 1) := dk_4 (dk_at dksL_law_45 12 rfl rfl)
theorem dL_law_1172 : decode cL_law 1172 = .ok (.iadd, 1) := dk_96 (dk_at dksL_law_45 13 rfl rfl)
theorem dL_law_1173 : decode cL_law 1173 = .ok (.iaload, 1) := dk_46 (dk_at dksL_law_45 14 rfl rfl)
theorem dL_law_1174 : decode cL_law 1174 = .ok (.aload_n 0, 1) := dk_42 (dk_at dksL_law_45 15 rfl rfl)
theorem dL_law_1175 : decode cL_law 1175 = .ok (.iload 4, 2) := dk_21 4 (dk_at dksL_law_45 16 rfl rfl)
theorem dL_law_1177 : decode cL_law 1177 = .ok (.iconst 2, 1) := dk_5 (dk_at dksL_law_45 18 rfl rfl)
theorem dL_law_1178 : decode cL_law 1178 = .ok (.iadd, 1) := dk_96 (dk_at dksL_law_45 19 rfl rfl)
theorem dL_law_1179 : decode cL_law 1179 = .ok (.iaload, 1) := dk_46 (dk_at dksL_law_45 20 rfl rfl)
theorem dL_law_1180 : decode cL_law 1180 = .ok (.aload_n 0, 1) := dk_42 (dk_at dksL_law_45 21 rfl rfl)
theorem dL_law_1181 : decode cL_law 1181 = .ok (.iload 4, 2) := dk_21 4 (dk_at dksL_law_45 22 rfl rfl)
theorem dL_law_1183 : decode cL_law 1183 = .ok (.iconst 3, 1) := dk_6 (dk_at dksL_law_46 0 rfl rfl)
theorem dL_law_1184 : decode cL_law 1184 = .ok (.iadd, 1) := dk_96 (dk_at dksL_law_46 1 rfl rfl)
theorem dL_law_1185 : decode cL_law 1185 = .ok (.iaload, 1) := dk_46 (dk_at dksL_law_46 2 rfl rfl)
theorem dL_law_1186 : decode cL_law 1186 = .ok (.invokevirtual 114, 3) := dk_182 0 114 (dk_at dksL_law_46 3 rfl rfl)
theorem dL_law_1189 : decode cL_law 1189 = .ok (.if_icmp .eq 458, 3) := dk_159 1 202 (dk_at dksL_law_46 6 rfl rfl)
theorem dL_law_1192 : decode cL_law 1192 = .ok (.iconst 0, 1) := dk_3 (dk_at dksL_law_46 9 rfl rfl)
theorem dL_law_1193 : decode cL_law 1193 = .ok (.ireturn, 1) := dk_172 (dk_at dksL_law_46 10 rfl rfl)
theorem dL_law_1194 : decode cL_law 1194 = .ok (.aload_n 1, 1) := dk_43 (dk_at dksL_law_46 11 rfl rfl)
theorem dL_law_1195 : decode cL_law 1195 = .ok (.aload_n 0, 1) := dk_42 (dk_at dksL_law_46 12 rfl rfl)
theorem dL_law_1196 : decode cL_law 1196 = .ok (.iload 4, 2) := dk_21 4 (dk_at dksL_law_46 13 rfl rfl)
theorem dL_law_1198 : decode cL_law 1198 = .ok (.iconst 1, 1) := dk_4 (dk_at dksL_law_46 15 rfl rfl)
theorem dL_law_1199 : decode cL_law 1199 = .ok (.iadd, 1) := dk_96 (dk_at dksL_law_46 16 rfl rfl)
theorem dL_law_1200 : decode cL_law 1200 = .ok (.iaload, 1) := dk_46 (dk_at dksL_law_46 17 rfl rfl)
theorem dL_law_1201 : decode cL_law 1201 = .ok (.aload_n 0, 1) := dk_42 (dk_at dksL_law_46 18 rfl rfl)
theorem dL_law_1202 : decode cL_law 1202 = .ok (.iload 4, 2) := dk_21 4 (dk_at dksL_law_46 19 rfl rfl)
theorem dL_law_1204 : decode cL_law 1204 = .ok (.iconst 2, 1) := dk_5 (dk_at dksL_law_46 21 rfl rfl)
theorem dL_law_1205 : decode cL_law 1205 = .ok (.iadd, 1) := dk_96 (dk_at dksL_law_46 22 rfl rfl)
theorem dL_law_1206 : decode cL_law 1206 = .ok (.iaload, 1) := dk_46 (dk_at dksL_law_46 23 rfl rfl)
theorem dL_law_1207 : decode cL_law 1207 = .ok (.aload_n 0, 1) := dk_42 (dk_at dksL_law_47 0 rfl rfl)
theorem dL_law_1208 : decode cL_law 1208 = .ok (.iload 4, 2) := dk_21 4 (dk_at dksL_law_47 1 rfl rfl)
theorem dL_law_1210 : decode cL_law 1210 = .ok (.iconst 3, 1) := dk_6 (dk_at dksL_law_47 3 rfl rfl)
theorem dL_law_1211 : decode cL_law 1211 = .ok (.iadd, 1) := dk_96 (dk_at dksL_law_47 4 rfl rfl)
theorem dL_law_1212 : decode cL_law 1212 = .ok (.iaload, 1) := dk_46 (dk_at dksL_law_47 5 rfl rfl)
theorem dL_law_1213 : decode cL_law 1213 = .ok (.aload_n 0, 1) := dk_42 (dk_at dksL_law_47 6 rfl rfl)
theorem dL_law_1214 : decode cL_law 1214 = .ok (.iload 4, 2) := dk_21 4 (dk_at dksL_law_47 7 rfl rfl)
theorem dL_law_1216 : decode cL_law 1216 = .ok (.iconst 4, 1) := dk_7 (dk_at dksL_law_47 9 rfl rfl)
theorem dL_law_1217 : decode cL_law 1217 = .ok (.iadd, 1) := dk_96 (dk_at dksL_law_47 10 rfl rfl)
theorem dL_law_1218 : decode cL_law 1218 = .ok (.iaload, 1) := dk_46 (dk_at dksL_law_47 11 rfl rfl)
theorem dL_law_1219 : decode cL_law 1219 = .ok (.invokevirtual 115, 3) := dk_182 0 115 (dk_at dksL_law_47 12 rfl rfl)
theorem dL_law_1222 : decode cL_law 1222 = .ok (.aload_n 2, 1) := dk_44 (dk_at dksL_law_47 15 rfl rfl)
theorem dL_law_1223 : decode cL_law 1223 = .ok (.aload_n 0, 1) := dk_42 (dk_at dksL_law_47 16 rfl rfl)
theorem dL_law_1224 : decode cL_law 1224 = .ok (.iload 4, 2) := dk_21 4 (dk_at dksL_law_47 17 rfl rfl)
theorem dL_law_1226 : decode cL_law 1226 = .ok (.iconst 1, 1) := dk_4 (dk_at dksL_law_47 19 rfl rfl)
theorem dL_law_1227 : decode cL_law 1227 = .ok (.iadd, 1) := dk_96 (dk_at dksL_law_47 20 rfl rfl)
theorem dL_law_1228 : decode cL_law 1228 = .ok (.iaload, 1) := dk_46 (dk_at dksL_law_47 21 rfl rfl)
theorem dL_law_1229 : decode cL_law 1229 = .ok (.aload_n 0, 1) := dk_42 (dk_at dksL_law_47 22 rfl rfl)
theorem dL_law_1230 : decode cL_law 1230 = .ok (.iload 4, 2) := dk_21 4 (dk_at dksL_law_48 0 rfl rfl)
theorem dL_law_1232 : decode cL_law 1232 = .ok (.iconst 2, 1) := dk_5 (dk_at dksL_law_48 2 rfl rfl)
theorem dL_law_1233 : decode cL_law 1233 = .ok (.iadd, 1) := dk_96 (dk_at dksL_law_48 3 rfl rfl)
theorem dL_law_1234 : decode cL_law 1234 = .ok (.iaload, 1) := dk_46 (dk_at dksL_law_48 4 rfl rfl)
theorem dL_law_1235 : decode cL_law 1235 = .ok (.aload_n 0, 1) := dk_42 (dk_at dksL_law_48 5 rfl rfl)
theorem dL_law_1236 : decode cL_law 1236 = .ok (.iload 4, 2) := dk_21 4 (dk_at dksL_law_48 6 rfl rfl)
theorem dL_law_1238 : decode cL_law 1238 = .ok (.iconst 3, 1) := dk_6 (dk_at dksL_law_48 8 rfl rfl)
theorem dL_law_1239 : decode cL_law 1239 = .ok (.iadd, 1) := dk_96 (dk_at dksL_law_48 9 rfl rfl)
theorem dL_law_1240 : decode cL_law 1240 = .ok (.iaload, 1) := dk_46 (dk_at dksL_law_48 10 rfl rfl)
theorem dL_law_1241 : decode cL_law 1241 = .ok (.aload_n 0, 1) := dk_42 (dk_at dksL_law_48 11 rfl rfl)
theorem dL_law_1242 : decode cL_law 1242 = .ok (.iload 4, 2) := dk_21 4 (dk_at dksL_law_48 12 rfl rfl)
theorem dL_law_1244 : decode cL_law 1244 = .ok (.iconst 4, 1) := dk_7 (dk_at dksL_law_48 14 rfl rfl)
theorem dL_law_1245 : decode cL_law 1245 = .ok (.iadd, 1) := dk_96 (dk_at dksL_law_48 15 rfl rfl)
theorem dL_law_1246 : decode cL_law 1246 = .ok (.iaload, 1) := dk_46 (dk_at dksL_law_48 16 rfl rfl)
theorem dL_law_1247 : decode cL_law 1247 = .ok (.invokevirtual 119, 3) := dk_182 0 119 (dk_at dksL_law_48 17 rfl rfl)
theorem dL_law_1250 : decode cL_law 1250 = .ok (.if_icmp .eq 397, 3) := dk_159 1 141 (dk_at dksL_law_48 20 rfl rfl)
theorem dL_law_1253 : decode cL_law 1253 = .ok (.iconst 0, 1) := dk_3 (dk_at dksL_law_48 23 rfl rfl)
theorem dL_law_1254 : decode cL_law 1254 = .ok (.ireturn, 1) := dk_172 (dk_at dksL_law_49 0 rfl rfl)
theorem dL_law_1255 : decode cL_law 1255 = .ok (.aload_n 1, 1) := dk_43 (dk_at dksL_law_49 1 rfl rfl)
theorem dL_law_1256 : decode cL_law 1256 = .ok (.aload_n 0, 1) := dk_42 (dk_at dksL_law_49 2 rfl rfl)
theorem dL_law_1257 : decode cL_law 1257 = .ok (.iload 4, 2) := dk_21 4 (dk_at dksL_law_49 3 rfl rfl)
theorem dL_law_1259 : decode cL_law 1259 = .ok (.iconst 1, 1) := dk_4 (dk_at dksL_law_49 5 rfl rfl)
theorem dL_law_1260 : decode cL_law 1260 = .ok (.iadd, 1) := dk_96 (dk_at dksL_law_49 6 rfl rfl)
theorem dL_law_1261 : decode cL_law 1261 = .ok (.iaload, 1) := dk_46 (dk_at dksL_law_49 7 rfl rfl)
theorem dL_law_1262 : decode cL_law 1262 = .ok (.aload_n 0, 1) := dk_42 (dk_at dksL_law_49 8 rfl rfl)
theorem dL_law_1263 : decode cL_law 1263 = .ok (.iload 4, 2) := dk_21 4 (dk_at dksL_law_49 9 rfl rfl)
theorem dL_law_1265 : decode cL_law 1265 = .ok (.iconst 2, 1) := dk_5 (dk_at dksL_law_49 11 rfl rfl)
theorem dL_law_1266 : decode cL_law 1266 = .ok (.iadd, 1) := dk_96 (dk_at dksL_law_49 12 rfl rfl)
theorem dL_law_1267 : decode cL_law 1267 = .ok (.iaload, 1) := dk_46 (dk_at dksL_law_49 13 rfl rfl)
theorem dL_law_1268 : decode cL_law 1268 = .ok (.aload_n 0, 1) := dk_42 (dk_at dksL_law_49 14 rfl rfl)
theorem dL_law_1269 : decode cL_law 1269 = .ok (.iload 4, 2) := dk_21 4 (dk_at dksL_law_49 15 rfl rfl)
theorem dL_law_1271 : decode cL_law 1271 = .ok (.iconst 3, 1) := dk_6 (dk_at dksL_law_49 17 rfl rfl)
theorem dL_law_1272 : decode cL_law 1272 = .ok (.iadd, 1) := dk_96 (dk_at dksL_law_49 18 rfl rfl)
theorem dL_law_1273 : decode cL_law 1273 = .ok (.iaload, 1) := dk_46 (dk_at dksL_law_49 19 rfl rfl)
theorem dL_law_1274 : decode cL_law 1274 = .ok (.aload_n 0, 1) := dk_42 (dk_at dksL_law_49 20 rfl rfl)
theorem dL_law_1275 : decode cL_law 1275 = .ok (.iload 4, 2) := dk_21 4 (dk_at dksL_law_49 21 rfl rfl)
theorem dL_law_1277 : decode cL_law 1277 = .ok (.iconst 4, 1) := dk_7 (dk_at dksL_law_49 23 rfl rfl)
theorem dL_law_1278 : decode cL_law 1278 = .ok (.iadd, 1) := dk_96 (dk_at dksL_law_50 0 rfl rfl)
theorem dL_law_1279 : decode cL_law 1279 = .ok (.iaload, 1) := dk_46 (dk_at dksL_law_50 1 rfl rfl)
theorem dL_law_1280 : decode cL_law 1280 = .ok (.invokevirtual 120, 3) := dk_182 0 120 (dk_at dksL_law_50 2 rfl rfl)
theorem dL_law_1283 : decode cL_law 1283 = .ok (.aload_n 2, 1) := dk_44 (dk_at dksL_law_50 5 rfl rfl)
theorem dL_law_1284 : decode cL_law 1284 = .ok (.aload_n 0, 1) := dk_42 (dk_at dksL_law_50 6 rfl rfl)
theorem dL_law_1285 : decode cL_law 1285 = .ok (.iload 4, 2) := dk_21 4 (dk_at dksL_law_50 7 rfl rfl)
theorem dL_law_1287 : decode cL_law 1287 = .ok (.iconst 1, 1) := dk_4 (dk_at dksL_law_50 9 rfl rfl)
theorem dL_law_1288 : decode cL_law 1288 = .ok (.iadd, 1) := dk_96 (dk_at dksL_law_50 10 rfl rfl)
theorem dL_law_1289 : decode cL_law 1289 = .ok (.iaload, 1) := dk_46 (dk_at dksL_law_50 11 rfl rfl)
theorem dL_law_1290 : decode cL_law 1290 = .ok (.aload_n 0, 1) := dk_42 (dk_at dksL_law_50 12 rfl rfl)
theorem dL_law_1291 : decode cL_law 1291 = .ok (.iload 4, 2) := dk_21 4 (dk_at dksL_law_50 13 rfl rfl)
theorem dL_law_1293 : decode cL_law 1293 = .ok (.iconst 2, 1) := dk_5 (dk_at dksL_law_50 15 rfl rfl)
theorem dL_law_1294 : decode cL_law 1294 = .ok (.iadd, 1) := dk_96 (dk_at dksL_law_50 16 rfl rfl)
theorem dL_law_1295 : decode cL_law 1295 = .ok (.iaload, 1) := dk_46 (dk_at dksL_law_50 17 rfl rfl)
theorem dL_law_1296 : decode cL_law 1296 = .ok (.aload_n 0, 1) := dk_42 (dk_at dksL_law_50 18 rfl rfl)
theorem dL_law_1297 : decode cL_law 1297 = .ok (.iload 4, 2) := dk_21 4 (dk_at dksL_law_50 19 rfl rfl)
theorem dL_law_1299 : decode cL_law 1299 = .ok (.iconst 3, 1) := dk_6 (dk_at dksL_law_50 21 rfl rfl)
theorem dL_law_1300 : decode cL_law 1300 = .ok (.iadd, 1) := dk_96 (dk_at dksL_law_50 22 rfl rfl)
theorem dL_law_1301 : decode cL_law 1301 = .ok (.iaload, 1) := dk_46 (dk_at dksL_law_50 23 rfl rfl)
theorem dL_law_1302 : decode cL_law 1302 = .ok (.aload_n 0, 1) := dk_42 (dk_at dksL_law_51 0 rfl rfl)
theorem dL_law_1303 : decode cL_law 1303 = .ok (.iload 4, 2) := dk_21 4 (dk_at dksL_law_51 1 rfl rfl)
theorem dL_law_1305 : decode cL_law 1305 = .ok (.iconst 4, 1) := dk_7 (dk_at dksL_law_51 3 rfl rfl)
theorem dL_law_1306 : decode cL_law 1306 = .ok (.iadd, 1) := dk_96 (dk_at dksL_law_51 4 rfl rfl)
theorem dL_law_1307 : decode cL_law 1307 = .ok (.iaload, 1) := dk_46 (dk_at dksL_law_51 5 rfl rfl)
theorem dL_law_1308 : decode cL_law 1308 = .ok (.invokevirtual 123, 3) := dk_182 0 123 (dk_at dksL_law_51 6 rfl rfl)
theorem dL_law_1311 : decode cL_law 1311 = .ok (.if_icmp .eq 336, 3) := dk_159 1 80 (dk_at dksL_law_51 9 rfl rfl)
theorem dL_law_1314 : decode cL_law 1314 = .ok (.iconst 0, 1) := dk_3 (dk_at dksL_law_51 12 rfl rfl)
theorem dL_law_1315 : decode cL_law 1315 = .ok (.ireturn, 1) := dk_172 (dk_at dksL_law_51 13 rfl rfl)
theorem dL_law_1316 : decode cL_law 1316 = .ok (.aload_n 1, 1) := dk_43 (dk_at dksL_law_51 14 rfl rfl)
theorem dL_law_1317 : decode cL_law 1317 = .ok (.aload_n 0, 1) := dk_42 (dk_at dksL_law_51 15 rfl rfl)
theorem dL_law_1318 : decode cL_law 1318 = .ok (.iload 4, 2) := dk_21 4 (dk_at dksL_law_51 16 rfl rfl)
theorem dL_law_1320 : decode cL_law 1320 = .ok (.iconst 1, 1) := dk_4 (dk_at dksL_law_51 18 rfl rfl)
theorem dL_law_1321 : decode cL_law 1321 = .ok (.iadd, 1) := dk_96 (dk_at dksL_law_51 19 rfl rfl)
theorem dL_law_1322 : decode cL_law 1322 = .ok (.iaload, 1) := dk_46 (dk_at dksL_law_51 20 rfl rfl)
theorem dL_law_1323 : decode cL_law 1323 = .ok (.aload_n 0, 1) := dk_42 (dk_at dksL_law_51 21 rfl rfl)
theorem dL_law_1324 : decode cL_law 1324 = .ok (.iload 4, 2) := dk_21 4 (dk_at dksL_law_51 22 rfl rfl)
theorem dL_law_1326 : decode cL_law 1326 = .ok (.iconst 2, 1) := dk_5 (dk_at dksL_law_52 0 rfl rfl)
theorem dL_law_1327 : decode cL_law 1327 = .ok (.iadd, 1) := dk_96 (dk_at dksL_law_52 1 rfl rfl)
theorem dL_law_1328 : decode cL_law 1328 = .ok (.iaload, 1) := dk_46 (dk_at dksL_law_52 2 rfl rfl)
theorem dL_law_1329 : decode cL_law 1329 = .ok (.aload_n 0, 1) := dk_42 (dk_at dksL_law_52 3 rfl rfl)
theorem dL_law_1330 : decode cL_law 1330 = .ok (.iload 4, 2) := dk_21 4 (dk_at dksL_law_52 4 rfl rfl)
theorem dL_law_1332 : decode cL_law 1332 = .ok (.iconst 3, 1) := dk_6 (dk_at dksL_law_52 6 rfl rfl)
theorem dL_law_1333 : decode cL_law 1333 = .ok (.iadd, 1) := dk_96 (dk_at dksL_law_52 7 rfl rfl)
theorem dL_law_1334 : decode cL_law 1334 = .ok (.iaload, 1) := dk_46 (dk_at dksL_law_52 8 rfl rfl)
theorem dL_law_1335 : decode cL_law 1335 = .ok (.aload_n 0, 1) := dk_42 (dk_at dksL_law_52 9 rfl rfl)
theorem dL_law_1336 : decode cL_law 1336 = .ok (.iload 4, 2) := dk_21 4 (dk_at dksL_law_52 10 rfl rfl)
theorem dL_law_1338 : decode cL_law 1338 = .ok (.iconst 4, 1) := dk_7 (dk_at dksL_law_52 12 rfl rfl)
theorem dL_law_1339 : decode cL_law 1339 = .ok (.iadd, 1) := dk_96 (dk_at dksL_law_52 13 rfl rfl)
theorem dL_law_1340 : decode cL_law 1340 = .ok (.iaload, 1) := dk_46 (dk_at dksL_law_52 14 rfl rfl)
theorem dL_law_1341 : decode cL_law 1341 = .ok (.invokevirtual 124, 3) := dk_182 0 124 (dk_at dksL_law_52 15 rfl rfl)
theorem dL_law_1344 : decode cL_law 1344 = .ok (.aload_n 2, 1) := dk_44 (dk_at dksL_law_52 18 rfl rfl)
theorem dL_law_1345 : decode cL_law 1345 = .ok (.aload_n 0, 1) := dk_42 (dk_at dksL_law_52 19 rfl rfl)
theorem dL_law_1346 : decode cL_law 1346 = .ok (.iload 4, 2) := dk_21 4 (dk_at dksL_law_52 20 rfl rfl)
theorem dL_law_1348 : decode cL_law 1348 = .ok (.iconst 1, 1) := dk_4 (dk_at dksL_law_52 22 rfl rfl)
theorem dL_law_1349 : decode cL_law 1349 = .ok (.iadd, 1) := dk_96 (dk_at dksL_law_52 23 rfl rfl)
theorem dL_law_1350 : decode cL_law 1350 = .ok (.iaload, 1) := dk_46 (dk_at dksL_law_53 0 rfl rfl)
theorem dL_law_1351 : decode cL_law 1351 = .ok (.aload_n 0, 1) := dk_42 (dk_at dksL_law_53 1 rfl rfl)
theorem dL_law_1352 : decode cL_law 1352 = .ok (.iload 4, 2) := dk_21 4 (dk_at dksL_law_53 2 rfl rfl)
theorem dL_law_1354 : decode cL_law 1354 = .ok (.iconst 2, 1) := dk_5 (dk_at dksL_law_53 4 rfl rfl)
theorem dL_law_1355 : decode cL_law 1355 = .ok (.iadd, 1) := dk_96 (dk_at dksL_law_53 5 rfl rfl)
theorem dL_law_1356 : decode cL_law 1356 = .ok (.iaload, 1) := dk_46 (dk_at dksL_law_53 6 rfl rfl)
theorem dL_law_1357 : decode cL_law 1357 = .ok (.aload_n 0, 1) := dk_42 (dk_at dksL_law_53 7 rfl rfl)
theorem dL_law_1358 : decode cL_law 1358 = .ok (.iload 4, 2) := dk_21 4 (dk_at dksL_law_53 8 rfl rfl)
theorem dL_law_1360 : decode cL_law 1360 = .ok (.iconst 3, 1) := dk_6 (dk_at dksL_law_53 10 rfl rfl)
theorem dL_law_1361 : decode cL_law 1361 = .ok (.iadd, 1) := dk_96 (dk_at dksL_law_53 11 rfl rfl)
theorem dL_law_1362 : decode cL_law 1362 = .ok (.iaload, 1) := dk_46 (dk_at dksL_law_53 12 rfl rfl)
theorem dL_law_1363 : decode cL_law 1363 = .ok (.aload_n 0, 1) := dk_42 (dk_at dksL_law_53 13 rfl rfl)
theorem dL_law_1364 : decode cL_law 1364 = .ok (.iload 4, 2) := dk_21 4 (dk_at dksL_law_53 14 rfl rfl)
theorem dL_law_1366 : decode cL_law 1366 = .ok (.iconst 4, 1) := dk_7 (dk_at dksL_law_53 16 rfl rfl)
theorem dL_law_1367 : decode cL_law 1367 = .ok (.iadd, 1) := dk_96 (dk_at dksL_law_53 17 rfl rfl)
theorem dL_law_1368 : decode cL_law 1368 = .ok (.iaload, 1) := dk_46 (dk_at dksL_law_53 18 rfl rfl)
theorem dL_law_1369 : decode cL_law 1369 = .ok (.invokevirtual 127, 3) := dk_182 0 127 (dk_at dksL_law_53 19 rfl rfl)
theorem dL_law_1372 : decode cL_law 1372 = .ok (.if_icmp .eq 275, 3) := dk_159 1 19 (dk_at dksL_law_54 0 rfl rfl)
theorem dL_law_1375 : decode cL_law 1375 = .ok (.iconst 0, 1) := dk_3 (dk_at dksL_law_54 3 rfl rfl)
theorem dL_law_1376 : decode cL_law 1376 = .ok (.ireturn, 1) := dk_172 (dk_at dksL_law_54 4 rfl rfl)
theorem dL_law_1377 : decode cL_law 1377 = .ok (.aload_n 1, 1) := dk_43 (dk_at dksL_law_54 5 rfl rfl)
theorem dL_law_1378 : decode cL_law 1378 = .ok (.aload_n 0, 1) := dk_42 (dk_at dksL_law_54 6 rfl rfl)
theorem dL_law_1379 : decode cL_law 1379 = .ok (.iload 4, 2) := dk_21 4 (dk_at dksL_law_54 7 rfl rfl)
theorem dL_law_1381 : decode cL_law 1381 = .ok (.iconst 1, 1) := dk_4 (dk_at dksL_law_54 9 rfl rfl)
theorem dL_law_1382 : decode cL_law 1382 = .ok (.iadd, 1) := dk_96 (dk_at dksL_law_54 10 rfl rfl)
theorem dL_law_1383 : decode cL_law 1383 = .ok (.iaload, 1) := dk_46 (dk_at dksL_law_54 11 rfl rfl)
theorem dL_law_1384 : decode cL_law 1384 = .ok (.aload_n 0, 1) := dk_42 (dk_at dksL_law_54 12 rfl rfl)
theorem dL_law_1385 : decode cL_law 1385 = .ok (.iload 4, 2) := dk_21 4 (dk_at dksL_law_54 13 rfl rfl)
theorem dL_law_1387 : decode cL_law 1387 = .ok (.iconst 2, 1) := dk_5 (dk_at dksL_law_54 15 rfl rfl)
theorem dL_law_1388 : decode cL_law 1388 = .ok (.iadd, 1) := dk_96 (dk_at dksL_law_54 16 rfl rfl)
theorem dL_law_1389 : decode cL_law 1389 = .ok (.iaload, 1) := dk_46 (dk_at dksL_law_54 17 rfl rfl)
theorem dL_law_1390 : decode cL_law 1390 = .ok (.aload_n 0, 1) := dk_42 (dk_at dksL_law_54 18 rfl rfl)
theorem dL_law_1391 : decode cL_law 1391 = .ok (.iload 4, 2) := dk_21 4 (dk_at dksL_law_54 19 rfl rfl)
theorem dL_law_1393 : decode cL_law 1393 = .ok (.iconst 3, 1) := dk_6 (dk_at dksL_law_54 21 rfl rfl)
theorem dL_law_1394 : decode cL_law 1394 = .ok (.iadd, 1) := dk_96 (dk_at dksL_law_54 22 rfl rfl)
theorem dL_law_1395 : decode cL_law 1395 = .ok (.iaload, 1) := dk_46 (dk_at dksL_law_54 23 rfl rfl)
theorem dL_law_1396 : decode cL_law 1396 = .ok (.invokevirtual 128, 3) := dk_182 0 128 (dk_at dksL_law_55 0 rfl rfl)
theorem dL_law_1399 : decode cL_law 1399 = .ok (.aload_n 2, 1) := dk_44 (dk_at dksL_law_55 3 rfl rfl)
theorem dL_law_1400 : decode cL_law 1400 = .ok (.aload_n 0, 1) := dk_42 (dk_at dksL_law_55 4 rfl rfl)
theorem dL_law_1401 : decode cL_law 1401 = .ok (.iload 4, 2) := dk_21 4 (dk_at dksL_law_55 5 rfl rfl)
theorem dL_law_1403 : decode cL_law 1403 = .ok (.iconst 1, 1) := dk_4 (dk_at dksL_law_55 7 rfl rfl)
theorem dL_law_1404 : decode cL_law 1404 = .ok (.iadd, 1) := dk_96 (dk_at dksL_law_55 8 rfl rfl)
theorem dL_law_1405 : decode cL_law 1405 = .ok (.iaload, 1) := dk_46 (dk_at dksL_law_55 9 rfl rfl)
theorem dL_law_1406 : decode cL_law 1406 = .ok (.aload_n 0, 1) := dk_42 (dk_at dksL_law_55 10 rfl rfl)
theorem dL_law_1407 : decode cL_law 1407 = .ok (.iload 4, 2) := dk_21 4 (dk_at dksL_law_55 11 rfl rfl)
theorem dL_law_1409 : decode cL_law 1409 = .ok (.iconst 2, 1) := dk_5 (dk_at dksL_law_55 13 rfl rfl)
theorem dL_law_1410 : decode cL_law 1410 = .ok (.iadd, 1) := dk_96 (dk_at dksL_law_55 14 rfl rfl)
theorem dL_law_1411 : decode cL_law 1411 = .ok (.iaload, 1) := dk_46 (dk_at dksL_law_55 15 rfl rfl)
theorem dL_law_1412 : decode cL_law 1412 = .ok (.aload_n 0, 1) := dk_42 (dk_at dksL_law_55 16 rfl rfl)
theorem dL_law_1413 : decode cL_law 1413 = .ok (.iload 4, 2) := dk_21 4 (dk_at dksL_law_55 17 rfl rfl)
theorem dL_law_1415 : decode cL_law 1415 = .ok (.iconst 3, 1) := dk_6 (dk_at dksL_law_55 19 rfl rfl)
theorem dL_law_1416 : decode cL_law 1416 = .ok (.iadd, 1) := dk_96 (dk_at dksL_law_55 20 rfl rfl)
theorem dL_law_1417 : decode cL_law 1417 = .ok (.iaload, 1) := dk_46 (dk_at dksL_law_55 21 rfl rfl)
theorem dL_law_1418 : decode cL_law 1418 = .ok (.invokevirtual 131, 3) := dk_182 0 131 (dk_at dksL_law_56 0 rfl rfl)
theorem dL_law_1421 : decode cL_law 1421 = .ok (.if_icmp .eq 226, 3) := dk_159 0 226 (dk_at dksL_law_56 3 rfl rfl)
theorem dL_law_1424 : decode cL_law 1424 = .ok (.iconst 0, 1) := dk_3 (dk_at dksL_law_56 6 rfl rfl)
theorem dL_law_1425 : decode cL_law 1425 = .ok (.ireturn, 1) := dk_172 (dk_at dksL_law_56 7 rfl rfl)
theorem dL_law_1426 : decode cL_law 1426 = .ok (.aload_n 1, 1) := dk_43 (dk_at dksL_law_56 8 rfl rfl)
theorem dL_law_1427 : decode cL_law 1427 = .ok (.aload_n 0, 1) := dk_42 (dk_at dksL_law_56 9 rfl rfl)
theorem dL_law_1428 : decode cL_law 1428 = .ok (.iload 4, 2) := dk_21 4 (dk_at dksL_law_56 10 rfl rfl)
theorem dL_law_1430 : decode cL_law 1430 = .ok (.iconst 1, 1) := dk_4 (dk_at dksL_law_56 12 rfl rfl)
theorem dL_law_1431 : decode cL_law 1431 = .ok (.iadd, 1) := dk_96 (dk_at dksL_law_56 13 rfl rfl)
theorem dL_law_1432 : decode cL_law 1432 = .ok (.iaload, 1) := dk_46 (dk_at dksL_law_56 14 rfl rfl)
theorem dL_law_1433 : decode cL_law 1433 = .ok (.aload_n 0, 1) := dk_42 (dk_at dksL_law_56 15 rfl rfl)
theorem dL_law_1434 : decode cL_law 1434 = .ok (.iload 4, 2) := dk_21 4 (dk_at dksL_law_56 16 rfl rfl)
theorem dL_law_1436 : decode cL_law 1436 = .ok (.iconst 2, 1) := dk_5 (dk_at dksL_law_56 18 rfl rfl)
theorem dL_law_1437 : decode cL_law 1437 = .ok (.iadd, 1) := dk_96 (dk_at dksL_law_56 19 rfl rfl)
theorem dL_law_1438 : decode cL_law 1438 = .ok (.iaload, 1) := dk_46 (dk_at dksL_law_56 20 rfl rfl)
theorem dL_law_1439 : decode cL_law 1439 = .ok (.aload_n 0, 1) := dk_42 (dk_at dksL_law_56 21 rfl rfl)
theorem dL_law_1440 : decode cL_law 1440 = .ok (.iload 4, 2) := dk_21 4 (dk_at dksL_law_56 22 rfl rfl)
theorem dL_law_1442 : decode cL_law 1442 = .ok (.iconst 3, 1) := dk_6 (dk_at dksL_law_57 0 rfl rfl)
theorem dL_law_1443 : decode cL_law 1443 = .ok (.iadd, 1) := dk_96 (dk_at dksL_law_57 1 rfl rfl)
theorem dL_law_1444 : decode cL_law 1444 = .ok (.iaload, 1) := dk_46 (dk_at dksL_law_57 2 rfl rfl)
theorem dL_law_1445 : decode cL_law 1445 = .ok (.invokevirtual 132, 3) := dk_182 0 132 (dk_at dksL_law_57 3 rfl rfl)
theorem dL_law_1448 : decode cL_law 1448 = .ok (.aload_n 2, 1) := dk_44 (dk_at dksL_law_57 6 rfl rfl)
theorem dL_law_1449 : decode cL_law 1449 = .ok (.aload_n 0, 1) := dk_42 (dk_at dksL_law_57 7 rfl rfl)
theorem dL_law_1450 : decode cL_law 1450 = .ok (.iload 4, 2) := dk_21 4 (dk_at dksL_law_57 8 rfl rfl)
theorem dL_law_1452 : decode cL_law 1452 = .ok (.iconst 1, 1) := dk_4 (dk_at dksL_law_57 10 rfl rfl)
theorem dL_law_1453 : decode cL_law 1453 = .ok (.iadd, 1) := dk_96 (dk_at dksL_law_57 11 rfl rfl)
theorem dL_law_1454 : decode cL_law 1454 = .ok (.iaload, 1) := dk_46 (dk_at dksL_law_57 12 rfl rfl)
theorem dL_law_1455 : decode cL_law 1455 = .ok (.aload_n 0, 1) := dk_42 (dk_at dksL_law_57 13 rfl rfl)
theorem dL_law_1456 : decode cL_law 1456 = .ok (.iload 4, 2) := dk_21 4 (dk_at dksL_law_57 14 rfl rfl)
theorem dL_law_1458 : decode cL_law 1458 = .ok (.iconst 2, 1) := dk_5 (dk_at dksL_law_57 16 rfl rfl)
theorem dL_law_1459 : decode cL_law 1459 = .ok (.iadd, 1) := dk_96 (dk_at dksL_law_57 17 rfl rfl)
theorem dL_law_1460 : decode cL_law 1460 = .ok (.iaload, 1) := dk_46 (dk_at dksL_law_57 18 rfl rfl)
theorem dL_law_1461 : decode cL_law 1461 = .ok (.aload_n 0, 1) := dk_42 (dk_at dksL_law_57 19 rfl rfl)
theorem dL_law_1462 : decode cL_law 1462 = .ok (.iload 4, 2) := dk_21 4 (dk_at dksL_law_57 20 rfl rfl)
theorem dL_law_1464 : decode cL_law 1464 = .ok (.iconst 3, 1) := dk_6 (dk_at dksL_law_57 22 rfl rfl)
theorem dL_law_1465 : decode cL_law 1465 = .ok (.iadd, 1) := dk_96 (dk_at dksL_law_57 23 rfl rfl)
theorem dL_law_1466 : decode cL_law 1466 = .ok (.iaload, 1) := dk_46 (dk_at dksL_law_58 0 rfl rfl)
theorem dL_law_1467 : decode cL_law 1467 = .ok (.invokevirtual 135, 3) := dk_182 0 135 (dk_at dksL_law_58 1 rfl rfl)
theorem dL_law_1470 : decode cL_law 1470 = .ok (.if_icmp .eq 177, 3) := dk_159 0 177 (dk_at dksL_law_58 4 rfl rfl)
theorem dL_law_1473 : decode cL_law 1473 = .ok (.iconst 0, 1) := dk_3 (dk_at dksL_law_58 7 rfl rfl)
theorem dL_law_1474 : decode cL_law 1474 = .ok (.ireturn, 1) := dk_172 (dk_at dksL_law_58 8 rfl rfl)
theorem dL_law_1475 : decode cL_law 1475 = .ok (.aload_n 1, 1) := dk_43 (dk_at dksL_law_58 9 rfl rfl)
theorem dL_law_1476 : decode cL_law 1476 = .ok (.aload_n 0, 1) := dk_42 (dk_at dksL_law_58 10 rfl rfl)
theorem dL_law_1477 : decode cL_law 1477 = .ok (.iload 4, 2) := dk_21 4 (dk_at dksL_law_58 11 rfl rfl)
theorem dL_law_1479 : decode cL_law 1479 = .ok (.iconst 1, 1) := dk_4 (dk_at dksL_law_58 13 rfl rfl)
theorem dL_law_1480 : decode cL_law 1480 = .ok (.iadd, 1) := dk_96 (dk_at dksL_law_58 14 rfl rfl)
theorem dL_law_1481 : decode cL_law 1481 = .ok (.iaload, 1) := dk_46 (dk_at dksL_law_58 15 rfl rfl)
theorem dL_law_1482 : decode cL_law 1482 = .ok (.aload_n 0, 1) := dk_42 (dk_at dksL_law_58 16 rfl rfl)
theorem dL_law_1483 : decode cL_law 1483 = .ok (.iload 4, 2) := dk_21 4 (dk_at dksL_law_58 17 rfl rfl)
theorem dL_law_1485 : decode cL_law 1485 = .ok (.iconst 2, 1) := dk_5 (dk_at dksL_law_58 19 rfl rfl)
theorem dL_law_1486 : decode cL_law 1486 = .ok (.iadd, 1) := dk_96 (dk_at dksL_law_58 20 rfl rfl)
theorem dL_law_1487 : decode cL_law 1487 = .ok (.iaload, 1) := dk_46 (dk_at dksL_law_58 21 rfl rfl)
theorem dL_law_1488 : decode cL_law 1488 = .ok (.aload_n 0, 1) := dk_42 (dk_at dksL_law_58 22 rfl rfl)
theorem dL_law_1489 : decode cL_law 1489 = .ok (.iload 4, 2) := dk_21 4 (dk_at dksL_law_59 0 rfl rfl)
theorem dL_law_1491 : decode cL_law 1491 = .ok (.iconst 3, 1) := dk_6 (dk_at dksL_law_59 2 rfl rfl)
theorem dL_law_1492 : decode cL_law 1492 = .ok (.iadd, 1) := dk_96 (dk_at dksL_law_59 3 rfl rfl)
theorem dL_law_1493 : decode cL_law 1493 = .ok (.iaload, 1) := dk_46 (dk_at dksL_law_59 4 rfl rfl)
theorem dL_law_1494 : decode cL_law 1494 = .ok (.invokevirtual 136, 3) := dk_182 0 136 (dk_at dksL_law_59 5 rfl rfl)
theorem dL_law_1497 : decode cL_law 1497 = .ok (.aload_n 2, 1) := dk_44 (dk_at dksL_law_59 8 rfl rfl)
theorem dL_law_1498 : decode cL_law 1498 = .ok (.aload_n 0, 1) := dk_42 (dk_at dksL_law_59 9 rfl rfl)
theorem dL_law_1499 : decode cL_law 1499 = .ok (.iload 4, 2) := dk_21 4 (dk_at dksL_law_59 10 rfl rfl)
theorem dL_law_1501 : decode cL_law 1501 = .ok (.iconst 1, 1) := dk_4 (dk_at dksL_law_59 12 rfl rfl)
theorem dL_law_1502 : decode cL_law 1502 = .ok (.iadd, 1) := dk_96 (dk_at dksL_law_59 13 rfl rfl)
theorem dL_law_1503 : decode cL_law 1503 = .ok (.iaload, 1) := dk_46 (dk_at dksL_law_59 14 rfl rfl)
theorem dL_law_1504 : decode cL_law 1504 = .ok (.aload_n 0, 1) := dk_42 (dk_at dksL_law_59 15 rfl rfl)
theorem dL_law_1505 : decode cL_law 1505 = .ok (.iload 4, 2) := dk_21 4 (dk_at dksL_law_59 16 rfl rfl)
theorem dL_law_1507 : decode cL_law 1507 = .ok (.iconst 2, 1) := dk_5 (dk_at dksL_law_59 18 rfl rfl)
theorem dL_law_1508 : decode cL_law 1508 = .ok (.iadd, 1) := dk_96 (dk_at dksL_law_59 19 rfl rfl)
theorem dL_law_1509 : decode cL_law 1509 = .ok (.iaload, 1) := dk_46 (dk_at dksL_law_59 20 rfl rfl)
theorem dL_law_1510 : decode cL_law 1510 = .ok (.aload_n 0, 1) := dk_42 (dk_at dksL_law_59 21 rfl rfl)
theorem dL_law_1511 : decode cL_law 1511 = .ok (.iload 4, 2) := dk_21 4 (dk_at dksL_law_59 22 rfl rfl)
theorem dL_law_1513 : decode cL_law 1513 = .ok (.iconst 3, 1) := dk_6 (dk_at dksL_law_60 0 rfl rfl)
theorem dL_law_1514 : decode cL_law 1514 = .ok (.iadd, 1) := dk_96 (dk_at dksL_law_60 1 rfl rfl)
theorem dL_law_1515 : decode cL_law 1515 = .ok (.iaload, 1) := dk_46 (dk_at dksL_law_60 2 rfl rfl)
theorem dL_law_1516 : decode cL_law 1516 = .ok (.invokevirtual 139, 3) := dk_182 0 139 (dk_at dksL_law_60 3 rfl rfl)
theorem dL_law_1519 : decode cL_law 1519 = .ok (.if_icmp .eq 128, 3) := dk_159 0 128 (dk_at dksL_law_60 6 rfl rfl)
theorem dL_law_1522 : decode cL_law 1522 = .ok (.iconst 0, 1) := dk_3 (dk_at dksL_law_60 9 rfl rfl)
theorem dL_law_1523 : decode cL_law 1523 = .ok (.ireturn, 1) := dk_172 (dk_at dksL_law_60 10 rfl rfl)
theorem dL_law_1524 : decode cL_law 1524 = .ok (.aload_n 1, 1) := dk_43 (dk_at dksL_law_60 11 rfl rfl)
theorem dL_law_1525 : decode cL_law 1525 = .ok (.aload_n 0, 1) := dk_42 (dk_at dksL_law_60 12 rfl rfl)
theorem dL_law_1526 : decode cL_law 1526 = .ok (.iload 4, 2) := dk_21 4 (dk_at dksL_law_60 13 rfl rfl)
theorem dL_law_1528 : decode cL_law 1528 = .ok (.iconst 1, 1) := dk_4 (dk_at dksL_law_60 15 rfl rfl)
theorem dL_law_1529 : decode cL_law 1529 = .ok (.iadd, 1) := dk_96 (dk_at dksL_law_60 16 rfl rfl)
theorem dL_law_1530 : decode cL_law 1530 = .ok (.iaload, 1) := dk_46 (dk_at dksL_law_60 17 rfl rfl)
theorem dL_law_1531 : decode cL_law 1531 = .ok (.aload_n 0, 1) := dk_42 (dk_at dksL_law_60 18 rfl rfl)
theorem dL_law_1532 : decode cL_law 1532 = .ok (.iload 4, 2) := dk_21 4 (dk_at dksL_law_60 19 rfl rfl)
theorem dL_law_1534 : decode cL_law 1534 = .ok (.iconst 2, 1) := dk_5 (dk_at dksL_law_60 21 rfl rfl)
theorem dL_law_1535 : decode cL_law 1535 = .ok (.iadd, 1) := dk_96 (dk_at dksL_law_60 22 rfl rfl)
theorem dL_law_1536 : decode cL_law 1536 = .ok (.iaload, 1) := dk_46 (dk_at dksL_law_60 23 rfl rfl)
theorem dL_law_1537 : decode cL_law 1537 = .ok (.invokevirtual 140, 3) := dk_182 0 140 (dk_at dksL_law_61 0 rfl rfl)
theorem dL_law_1540 : decode cL_law 1540 = .ok (.aload_n 2, 1) := dk_44 (dk_at dksL_law_61 3 rfl rfl)
theorem dL_law_1541 : decode cL_law 1541 = .ok (.aload_n 0, 1) := dk_42 (dk_at dksL_law_61 4 rfl rfl)
theorem dL_law_1542 : decode cL_law 1542 = .ok (.iload 4, 2) := dk_21 4 (dk_at dksL_law_61 5 rfl rfl)
theorem dL_law_1544 : decode cL_law 1544 = .ok (.iconst 1, 1) := dk_4 (dk_at dksL_law_61 7 rfl rfl)
theorem dL_law_1545 : decode cL_law 1545 = .ok (.iadd, 1) := dk_96 (dk_at dksL_law_61 8 rfl rfl)
theorem dL_law_1546 : decode cL_law 1546 = .ok (.iaload, 1) := dk_46 (dk_at dksL_law_61 9 rfl rfl)
theorem dL_law_1547 : decode cL_law 1547 = .ok (.aload_n 0, 1) := dk_42 (dk_at dksL_law_61 10 rfl rfl)
theorem dL_law_1548 : decode cL_law 1548 = .ok (.iload 4, 2) := dk_21 4 (dk_at dksL_law_61 11 rfl rfl)
theorem dL_law_1550 : decode cL_law 1550 = .ok (.iconst 2, 1) := dk_5 (dk_at dksL_law_61 13 rfl rfl)
theorem dL_law_1551 : decode cL_law 1551 = .ok (.iadd, 1) := dk_96 (dk_at dksL_law_61 14 rfl rfl)
theorem dL_law_1552 : decode cL_law 1552 = .ok (.iaload, 1) := dk_46 (dk_at dksL_law_61 15 rfl rfl)
theorem dL_law_1553 : decode cL_law 1553 = .ok (.invokevirtual 143, 3) := dk_182 0 143 (dk_at dksL_law_61 16 rfl rfl)
theorem dL_law_1556 : decode cL_law 1556 = .ok (.if_icmp .eq 91, 3) := dk_159 0 91 (dk_at dksL_law_61 19 rfl rfl)
theorem dL_law_1559 : decode cL_law 1559 = .ok (.iconst 0, 1) := dk_3 (dk_at dksL_law_61 22 rfl rfl)
theorem dL_law_1560 : decode cL_law 1560 = .ok (.ireturn, 1) := dk_172 (dk_at dksL_law_61 23 rfl rfl)
theorem dL_law_1561 : decode cL_law 1561 = .ok (.aload_n 1, 1) := dk_43 (dk_at dksL_law_62 0 rfl rfl)
theorem dL_law_1562 : decode cL_law 1562 = .ok (.aload_n 0, 1) := dk_42 (dk_at dksL_law_62 1 rfl rfl)
theorem dL_law_1563 : decode cL_law 1563 = .ok (.iload 4, 2) := dk_21 4 (dk_at dksL_law_62 2 rfl rfl)
theorem dL_law_1565 : decode cL_law 1565 = .ok (.iconst 1, 1) := dk_4 (dk_at dksL_law_62 4 rfl rfl)
theorem dL_law_1566 : decode cL_law 1566 = .ok (.iadd, 1) := dk_96 (dk_at dksL_law_62 5 rfl rfl)
theorem dL_law_1567 : decode cL_law 1567 = .ok (.iaload, 1) := dk_46 (dk_at dksL_law_62 6 rfl rfl)
theorem dL_law_1568 : decode cL_law 1568 = .ok (.aload_n 0, 1) := dk_42 (dk_at dksL_law_62 7 rfl rfl)
theorem dL_law_1569 : decode cL_law 1569 = .ok (.iload 4, 2) := dk_21 4 (dk_at dksL_law_62 8 rfl rfl)
theorem dL_law_1571 : decode cL_law 1571 = .ok (.iconst 2, 1) := dk_5 (dk_at dksL_law_62 10 rfl rfl)
theorem dL_law_1572 : decode cL_law 1572 = .ok (.iadd, 1) := dk_96 (dk_at dksL_law_62 11 rfl rfl)
theorem dL_law_1573 : decode cL_law 1573 = .ok (.iaload, 1) := dk_46 (dk_at dksL_law_62 12 rfl rfl)
theorem dL_law_1574 : decode cL_law 1574 = .ok (.aload_n 0, 1) := dk_42 (dk_at dksL_law_62 13 rfl rfl)
theorem dL_law_1575 : decode cL_law 1575 = .ok (.iload 4, 2) := dk_21 4 (dk_at dksL_law_62 14 rfl rfl)
theorem dL_law_1577 : decode cL_law 1577 = .ok (.iconst 3, 1) := dk_6 (dk_at dksL_law_62 16 rfl rfl)
theorem dL_law_1578 : decode cL_law 1578 = .ok (.iadd, 1) := dk_96 (dk_at dksL_law_62 17 rfl rfl)
theorem dL_law_1579 : decode cL_law 1579 = .ok (.iaload, 1) := dk_46 (dk_at dksL_law_62 18 rfl rfl)
theorem dL_law_1580 : decode cL_law 1580 = .ok (.aload_n 0, 1) := dk_42 (dk_at dksL_law_62 19 rfl rfl)
theorem dL_law_1581 : decode cL_law 1581 = .ok (.iload 4, 2) := dk_21 4 (dk_at dksL_law_62 20 rfl rfl)
theorem dL_law_1583 : decode cL_law 1583 = .ok (.iconst 4, 1) := dk_7 (dk_at dksL_law_62 22 rfl rfl)
theorem dL_law_1584 : decode cL_law 1584 = .ok (.iadd, 1) := dk_96 (dk_at dksL_law_62 23 rfl rfl)
theorem dL_law_1585 : decode cL_law 1585 = .ok (.iaload, 1) := dk_46 (dk_at dksL_law_63 0 rfl rfl)
theorem dL_law_1586 : decode cL_law 1586 = .ok (.invokevirtual 144, 3) := dk_182 0 144 (dk_at dksL_law_63 1 rfl rfl)
theorem dL_law_1589 : decode cL_law 1589 = .ok (.aload_n 2, 1) := dk_44 (dk_at dksL_law_63 4 rfl rfl)
theorem dL_law_1590 : decode cL_law 1590 = .ok (.aload_n 0, 1) := dk_42 (dk_at dksL_law_63 5 rfl rfl)
theorem dL_law_1591 : decode cL_law 1591 = .ok (.iload 4, 2) := dk_21 4 (dk_at dksL_law_63 6 rfl rfl)
theorem dL_law_1593 : decode cL_law 1593 = .ok (.iconst 1, 1) := dk_4 (dk_at dksL_law_63 8 rfl rfl)
theorem dL_law_1594 : decode cL_law 1594 = .ok (.iadd, 1) := dk_96 (dk_at dksL_law_63 9 rfl rfl)
theorem dL_law_1595 : decode cL_law 1595 = .ok (.iaload, 1) := dk_46 (dk_at dksL_law_63 10 rfl rfl)
theorem dL_law_1596 : decode cL_law 1596 = .ok (.aload_n 0, 1) := dk_42 (dk_at dksL_law_63 11 rfl rfl)
theorem dL_law_1597 : decode cL_law 1597 = .ok (.iload 4, 2) := dk_21 4 (dk_at dksL_law_63 12 rfl rfl)
theorem dL_law_1599 : decode cL_law 1599 = .ok (.iconst 2, 1) := dk_5 (dk_at dksL_law_63 14 rfl rfl)
theorem dL_law_1600 : decode cL_law 1600 = .ok (.iadd, 1) := dk_96 (dk_at dksL_law_63 15 rfl rfl)
theorem dL_law_1601 : decode cL_law 1601 = .ok (.iaload, 1) := dk_46 (dk_at dksL_law_63 16 rfl rfl)
theorem dL_law_1602 : decode cL_law 1602 = .ok (.aload_n 0, 1) := dk_42 (dk_at dksL_law_63 17 rfl rfl)
theorem dL_law_1603 : decode cL_law 1603 = .ok (.iload 4, 2) := dk_21 4 (dk_at dksL_law_63 18 rfl rfl)
theorem dL_law_1605 : decode cL_law 1605 = .ok (.iconst 3, 1) := dk_6 (dk_at dksL_law_63 20 rfl rfl)
theorem dL_law_1606 : decode cL_law 1606 = .ok (.iadd, 1) := dk_96 (dk_at dksL_law_63 21 rfl rfl)
theorem dL_law_1607 : decode cL_law 1607 = .ok (.iaload, 1) := dk_46 (dk_at dksL_law_63 22 rfl rfl)
theorem dL_law_1608 : decode cL_law 1608 = .ok (.aload_n 0, 1) := dk_42 (dk_at dksL_law_63 23 rfl rfl)
theorem dL_law_1609 : decode cL_law 1609 = .ok (.iload 4, 2) := dk_21 4 (dk_at dksL_law_64 0 rfl rfl)
theorem dL_law_1611 : decode cL_law 1611 = .ok (.iconst 4, 1) := dk_7 (dk_at dksL_law_64 2 rfl rfl)
theorem dL_law_1612 : decode cL_law 1612 = .ok (.iadd, 1) := dk_96 (dk_at dksL_law_64 3 rfl rfl)
theorem dL_law_1613 : decode cL_law 1613 = .ok (.iaload, 1) := dk_46 (dk_at dksL_law_64 4 rfl rfl)
theorem dL_law_1614 : decode cL_law 1614 = .ok (.invokevirtual 147, 3) := dk_182 0 147 (dk_at dksL_law_64 5 rfl rfl)
theorem dL_law_1617 : decode cL_law 1617 = .ok (.if_icmp .eq 30, 3) := dk_159 0 30 (dk_at dksL_law_64 8 rfl rfl)
theorem dL_law_1620 : decode cL_law 1620 = .ok (.iconst 0, 1) := dk_3 (dk_at dksL_law_64 11 rfl rfl)
theorem dL_law_1621 : decode cL_law 1621 = .ok (.ireturn, 1) := dk_172 (dk_at dksL_law_64 12 rfl rfl)
theorem dL_law_1622 : decode cL_law 1622 = .ok (.aload_n 1, 1) := dk_43 (dk_at dksL_law_64 13 rfl rfl)
theorem dL_law_1623 : decode cL_law 1623 = .ok (.aload_n 0, 1) := dk_42 (dk_at dksL_law_64 14 rfl rfl)
theorem dL_law_1624 : decode cL_law 1624 = .ok (.iload 4, 2) := dk_21 4 (dk_at dksL_law_64 15 rfl rfl)
theorem dL_law_1626 : decode cL_law 1626 = .ok (.iconst 1, 1) := dk_4 (dk_at dksL_law_64 17 rfl rfl)
theorem dL_law_1627 : decode cL_law 1627 = .ok (.iadd, 1) := dk_96 (dk_at dksL_law_64 18 rfl rfl)
theorem dL_law_1628 : decode cL_law 1628 = .ok (.iaload, 1) := dk_46 (dk_at dksL_law_64 19 rfl rfl)
theorem dL_law_1629 : decode cL_law 1629 = .ok (.invokevirtual 148, 3) := dk_182 0 148 (dk_at dksL_law_64 20 rfl rfl)
theorem dL_law_1632 : decode cL_law 1632 = .ok (.aload_n 2, 1) := dk_44 (dk_at dksL_law_64 23 rfl rfl)
theorem dL_law_1633 : decode cL_law 1633 = .ok (.aload_n 0, 1) := dk_42 (dk_at dksL_law_65 0 rfl rfl)
theorem dL_law_1634 : decode cL_law 1634 = .ok (.iload 4, 2) := dk_21 4 (dk_at dksL_law_65 1 rfl rfl)
theorem dL_law_1636 : decode cL_law 1636 = .ok (.iconst 1, 1) := dk_4 (dk_at dksL_law_65 3 rfl rfl)
theorem dL_law_1637 : decode cL_law 1637 = .ok (.iadd, 1) := dk_96 (dk_at dksL_law_65 4 rfl rfl)
theorem dL_law_1638 : decode cL_law 1638 = .ok (.iaload, 1) := dk_46 (dk_at dksL_law_65 5 rfl rfl)
theorem dL_law_1639 : decode cL_law 1639 = .ok (.invokevirtual 151, 3) := dk_182 0 151 (dk_at dksL_law_65 6 rfl rfl)
theorem dL_law_1642 : decode cL_law 1642 = .ok (.if_icmp .eq 5, 3) := dk_159 0 5 (dk_at dksL_law_65 9 rfl rfl)
theorem dL_law_1645 : decode cL_law 1645 = .ok (.iconst 0, 1) := dk_3 (dk_at dksL_law_65 12 rfl rfl)
theorem dL_law_1646 : decode cL_law 1646 = .ok (.ireturn, 1) := dk_172 (dk_at dksL_law_65 13 rfl rfl)
theorem dL_law_1647 : decode cL_law 1647 = .ok (.iinc 4 8, 3) := dk_132 4 8 (dk_at dksL_law_65 14 rfl rfl)
theorem dL_law_1650 : decode cL_law 1650 = .ok (.goto (-1627), 3) := dk_167 249 165 (dk_at dksL_law_65 17 rfl rfl)
theorem dL_law_1653 : decode cL_law 1653 = .ok (.iconst 1, 1) := dk_4 (dk_at dksL_law_65 20 rfl rfl)
theorem dL_law_1654 : decode cL_law 1654 = .ok (.ireturn, 1) := dk_172 (dk_at dksL_law_65 21 rfl rfl)
