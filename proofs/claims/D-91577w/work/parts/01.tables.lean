-- ===== PART A: goes FIRST, ahead of the names: the tables' words, and 'selects' of the private methods out of them =====
/-- a private method of a class that the tables say can be made, by its rows of tables_1 -/
def lw_okq (q : MethodName × Nat) : Prop := (q.1.cls ≠ "java/lang/invoke/MethodHandle" ∧ q.1.cls ≠ "java/lang/invoke/VarHandle") ∧ Cond.instantiable q.1.cls q.2 ∈ tables_1 ∧ Cond.privateMethod q.1 ∈ tables_1 ∧ Cond.instanceMethod q.1 ∈ tables_1
set_option maxRecDepth 100000
theorem lw_t1 {w : Cond} (h : w ∈ tables_1_1) : w ∈ tables_1 := List.mem_append_left _ h
theorem lw_t2 {w : Cond} (h : w ∈ tables_1_2) : w ∈ tables_1 := List.mem_append_right _ (List.mem_append_left _ h)
theorem lw_t3 {w : Cond} (h : w ∈ tables_1_3) : w ∈ tables_1 := List.mem_append_right _ (List.mem_append_right _ (List.mem_append_left _ h))
theorem lw_t4 {w : Cond} (h : w ∈ tables_1_4) : w ∈ tables_1 := List.mem_append_right _ (List.mem_append_right _ (List.mem_append_right _ (List.mem_append_left _ h)))
theorem lw_t5 {w : Cond} (h : w ∈ tables_1_5) : w ∈ tables_1 := List.mem_append_right _ (List.mem_append_right _ (List.mem_append_right _ (List.mem_append_right _ (List.mem_append_left _ h))))
theorem lw_t6 {w : Cond} (h : w ∈ tables_1_6) : w ∈ tables_1 := List.mem_append_right _ (List.mem_append_right _ (List.mem_append_right _ (List.mem_append_right _ (List.mem_append_right _ (List.mem_append_left _ h)))))
theorem lw_t7 {w : Cond} (h : w ∈ tables_1_7) : w ∈ tables_1 := List.mem_append_right _ (List.mem_append_right _ (List.mem_append_right _ (List.mem_append_right _ (List.mem_append_right _ (List.mem_append_right _ (List.mem_append_left _ h))))))
theorem lw_t8 {w : Cond} (h : w ∈ tables_1_8) : w ∈ tables_1 := List.mem_append_right _ (List.mem_append_right _ (List.mem_append_right _ (List.mem_append_right _ (List.mem_append_right _ (List.mem_append_right _ (List.mem_append_right _ (List.mem_append_left _ h)))))))
theorem lw_t9 {w : Cond} (h : w ∈ tables_1_9) : w ∈ tables_1 := List.mem_append_right _ (List.mem_append_right _ (List.mem_append_right _ (List.mem_append_right _ (List.mem_append_right _ (List.mem_append_right _ (List.mem_append_right _ (List.mem_append_right _ h)))))))
theorem lw_p0 : lw_okq (⟨"SecretBuyers", "changed", "()Z"⟩, 29) := ⟨⟨by decide +kernel, by decide +kernel⟩, lw_t1 (List.mem_of_getElem? (i := 42) rfl), lw_t1 (List.mem_of_getElem? (i := 237) rfl), lw_t1 (List.mem_of_getElem? (i := 238) rfl)⟩
theorem lw_p1 : lw_okq (⟨"java/util/ArrayList", "add", "(Ljava/lang/Object;[Ljava/lang/Object;I)V"⟩, 3) := ⟨⟨by decide +kernel, by decide +kernel⟩, lw_t1 (List.mem_of_getElem? (i := 50) rfl), lw_t2 (List.mem_of_getElem? (i := 61) rfl), lw_t2 (List.mem_of_getElem? (i := 62) rfl)⟩
theorem lw_p2 : lw_okq (⟨"java/util/ArrayList", "grow", "()[Ljava/lang/Object;"⟩, 3) := ⟨⟨by decide +kernel, by decide +kernel⟩, lw_t1 (List.mem_of_getElem? (i := 50) rfl), lw_t2 (List.mem_of_getElem? (i := 65) rfl), lw_t2 (List.mem_of_getElem? (i := 66) rfl)⟩
theorem lw_p3 : lw_okq (⟨"java/util/ArrayList", "grow", "(I)[Ljava/lang/Object;"⟩, 3) := ⟨⟨by decide +kernel, by decide +kernel⟩, lw_t1 (List.mem_of_getElem? (i := 50) rfl), lw_t2 (List.mem_of_getElem? (i := 69) rfl), lw_t2 (List.mem_of_getElem? (i := 70) rfl)⟩
theorem lw_p4 : lw_okq (⟨"SecretBuyers", "isShop", "(I)Z"⟩, 29) := ⟨⟨by decide +kernel, by decide +kernel⟩, lw_t1 (List.mem_of_getElem? (i := 42) rfl), lw_t2 (List.mem_of_getElem? (i := 142) rfl), lw_t2 (List.mem_of_getElem? (i := 143) rfl)⟩
theorem lw_p5 : lw_okq (⟨"SecretBuyers", "isBuyer", "(I)Z"⟩, 29) := ⟨⟨by decide +kernel, by decide +kernel⟩, lw_t1 (List.mem_of_getElem? (i := 42) rfl), lw_t2 (List.mem_of_getElem? (i := 146) rfl), lw_t2 (List.mem_of_getElem? (i := 147) rfl)⟩
theorem lw_p6 : lw_okq (⟨"SecretBuyers", "isVisit", "(I)Z"⟩, 29) := ⟨⟨by decide +kernel, by decide +kernel⟩, lw_t1 (List.mem_of_getElem? (i := 42) rfl), lw_t2 (List.mem_of_getElem? (i := 236) rfl), lw_t2 (List.mem_of_getElem? (i := 237) rfl)⟩
theorem lw_p7 : lw_okq (⟨"SecretBuyers$Reader", "next", "()V"⟩, 11) := ⟨⟨by decide +kernel, by decide +kernel⟩, lw_t1 (List.mem_of_getElem? (i := 78) rfl), lw_t3 (List.mem_of_getElem? (i := 68) rfl), lw_t3 (List.mem_of_getElem? (i := 69) rfl)⟩
theorem lw_p8 : lw_okq (⟨"SecretBuyers$Reader", "at", "(I)I"⟩, 11) := ⟨⟨by decide +kernel, by decide +kernel⟩, lw_t1 (List.mem_of_getElem? (i := 78) rfl), lw_t3 (List.mem_of_getElem? (i := 72) rfl), lw_t3 (List.mem_of_getElem? (i := 73) rfl)⟩
theorem lw_p9 : lw_okq (⟨"SecretBuyers$Reader", "which", "(Ljava/lang/String;)I"⟩, 11) := ⟨⟨by decide +kernel, by decide +kernel⟩, lw_t1 (List.mem_of_getElem? (i := 78) rfl), lw_t3 (List.mem_of_getElem? (i := 170) rfl), lw_t3 (List.mem_of_getElem? (i := 171) rfl)⟩
theorem lw_p10 : lw_okq (⟨"SecretBuyers$Reader", "wrong", "(I)LSecretBuyers$Wrong;"⟩, 11) := ⟨⟨by decide +kernel, by decide +kernel⟩, lw_t1 (List.mem_of_getElem? (i := 78) rfl), lw_t3 (List.mem_of_getElem? (i := 194) rfl), lw_t3 (List.mem_of_getElem? (i := 195) rfl)⟩
theorem lw_p11 : lw_okq (⟨"java/lang/Throwable", "fillInStackTrace", "(I)Ljava/lang/Throwable;"⟩, 6) := ⟨⟨by decide +kernel, by decide +kernel⟩, lw_t3 (List.mem_of_getElem? (i := 235) rfl), lw_t3 (List.mem_of_getElem? (i := 233) rfl), lw_t3 (List.mem_of_getElem? (i := 234) rfl)⟩
theorem lw_p12 : lw_okq (⟨"SecretBuyers$Reader", "let", "()V"⟩, 11) := ⟨⟨by decide +kernel, by decide +kernel⟩, lw_t1 (List.mem_of_getElem? (i := 78) rfl), lw_t4 (List.mem_of_getElem? (i := 27) rfl), lw_t4 (List.mem_of_getElem? (i := 28) rfl)⟩
theorem lw_p13 : lw_okq (⟨"SecretBuyers$Reader", "name", "()Ljava/lang/String;"⟩, 11) := ⟨⟨by decide +kernel, by decide +kernel⟩, lw_t1 (List.mem_of_getElem? (i := 78) rfl), lw_t4 (List.mem_of_getElem? (i := 31) rfl), lw_t4 (List.mem_of_getElem? (i := 32) rfl)⟩
theorem lw_p14 : lw_okq (⟨"SecretBuyers$Reader", "need", "(C)V"⟩, 11) := ⟨⟨by decide +kernel, by decide +kernel⟩, lw_t1 (List.mem_of_getElem? (i := 78) rfl), lw_t4 (List.mem_of_getElem? (i := 228) rfl), lw_t4 (List.mem_of_getElem? (i := 229) rfl)⟩
theorem lw_p15 : lw_okq (⟨"SecretBuyers$Reader", "isSign", "(C)Z"⟩, 11) := ⟨⟨by decide +kernel, by decide +kernel⟩, lw_t1 (List.mem_of_getElem? (i := 78) rfl), lw_t4 (List.mem_of_getElem? (i := 232) rfl), lw_t4 (List.mem_of_getElem? (i := 233) rfl)⟩
def lw_privs_1 : List (MethodName × Nat) := [(⟨"SecretBuyers", "changed", "()Z"⟩, 29), (⟨"java/util/ArrayList", "add", "(Ljava/lang/Object;[Ljava/lang/Object;I)V"⟩, 3), (⟨"java/util/ArrayList", "grow", "()[Ljava/lang/Object;"⟩, 3), (⟨"java/util/ArrayList", "grow", "(I)[Ljava/lang/Object;"⟩, 3), (⟨"SecretBuyers", "isShop", "(I)Z"⟩, 29), (⟨"SecretBuyers", "isBuyer", "(I)Z"⟩, 29), (⟨"SecretBuyers", "isVisit", "(I)Z"⟩, 29), (⟨"SecretBuyers$Reader", "next", "()V"⟩, 11), (⟨"SecretBuyers$Reader", "at", "(I)I"⟩, 11), (⟨"SecretBuyers$Reader", "which", "(Ljava/lang/String;)I"⟩, 11), (⟨"SecretBuyers$Reader", "wrong", "(I)LSecretBuyers$Wrong;"⟩, 11), (⟨"java/lang/Throwable", "fillInStackTrace", "(I)Ljava/lang/Throwable;"⟩, 6), (⟨"SecretBuyers$Reader", "let", "()V"⟩, 11), (⟨"SecretBuyers$Reader", "name", "()Ljava/lang/String;"⟩, 11), (⟨"SecretBuyers$Reader", "need", "(C)V"⟩, 11), (⟨"SecretBuyers$Reader", "isSign", "(C)Z"⟩, 11)]
theorem lw_r1 : ∀ q ∈ lw_privs_1, lw_okq q := List.forall_mem_cons.mpr ⟨lw_p0, List.forall_mem_cons.mpr ⟨lw_p1, List.forall_mem_cons.mpr ⟨lw_p2, List.forall_mem_cons.mpr ⟨lw_p3, List.forall_mem_cons.mpr ⟨lw_p4, List.forall_mem_cons.mpr ⟨lw_p5, List.forall_mem_cons.mpr ⟨lw_p6, List.forall_mem_cons.mpr ⟨lw_p7, List.forall_mem_cons.mpr ⟨lw_p8, List.forall_mem_cons.mpr ⟨lw_p9, List.forall_mem_cons.mpr ⟨lw_p10, List.forall_mem_cons.mpr ⟨lw_p11, List.forall_mem_cons.mpr ⟨lw_p12, List.forall_mem_cons.mpr ⟨lw_p13, List.forall_mem_cons.mpr ⟨lw_p14, List.forall_mem_cons.mpr ⟨lw_p15, fun _ h => absurd h List.not_mem_nil⟩⟩⟩⟩⟩⟩⟩⟩⟩⟩⟩⟩⟩⟩⟩⟩
theorem lw_p16 : lw_okq (⟨"SecretBuyers$Reader", "e", "()LSecretBuyers$Exp;"⟩, 11) := ⟨⟨by decide +kernel, by decide +kernel⟩, lw_t1 (List.mem_of_getElem? (i := 78) rfl), lw_t4 (List.mem_of_getElem? (i := 236) rfl), lw_t4 (List.mem_of_getElem? (i := 237) rfl)⟩
theorem lw_p17 : lw_okq (⟨"SecretBuyers$Reader", "test", "()LSecretBuyers$Exp;"⟩, 11) := ⟨⟨by decide +kernel, by decide +kernel⟩, lw_t1 (List.mem_of_getElem? (i := 78) rfl), lw_t5 (List.mem_of_getElem? (i := 0) rfl), lw_t5 (List.mem_of_getElem? (i := 1) rfl)⟩
theorem lw_p18 : lw_okq (⟨"SecretBuyers$Reader", "sum", "()LSecretBuyers$Exp;"⟩, 11) := ⟨⟨by decide +kernel, by decide +kernel⟩, lw_t1 (List.mem_of_getElem? (i := 78) rfl), lw_t5 (List.mem_of_getElem? (i := 4) rfl), lw_t5 (List.mem_of_getElem? (i := 5) rfl)⟩
theorem lw_p19 : lw_okq (⟨"SecretBuyers$Reader", "term", "()LSecretBuyers$Exp;"⟩, 11) := ⟨⟨by decide +kernel, by decide +kernel⟩, lw_t1 (List.mem_of_getElem? (i := 78) rfl), lw_t5 (List.mem_of_getElem? (i := 8) rfl), lw_t5 (List.mem_of_getElem? (i := 9) rfl)⟩
theorem lw_p20 : lw_okq (⟨"SecretBuyers$Reader", "part", "()LSecretBuyers$Exp;"⟩, 11) := ⟨⟨by decide +kernel, by decide +kernel⟩, lw_t1 (List.mem_of_getElem? (i := 78) rfl), lw_t5 (List.mem_of_getElem? (i := 12) rfl), lw_t5 (List.mem_of_getElem? (i := 13) rfl)⟩
theorem lw_p21 : lw_okq (⟨"SecretBuyers$Reader", "number", "(II)I"⟩, 11) := ⟨⟨by decide +kernel, by decide +kernel⟩, lw_t1 (List.mem_of_getElem? (i := 78) rfl), lw_t5 (List.mem_of_getElem? (i := 21) rfl), lw_t5 (List.mem_of_getElem? (i := 22) rfl)⟩
theorem lw_p22 : lw_okq (⟨"SecretBuyers$Reader", "need", "(Ljava/lang/String;)V"⟩, 11) := ⟨⟨by decide +kernel, by decide +kernel⟩, lw_t1 (List.mem_of_getElem? (i := 78) rfl), lw_t5 (List.mem_of_getElem? (i := 105) rfl), lw_t5 (List.mem_of_getElem? (i := 106) rfl)⟩
theorem lw_p23 : lw_okq (⟨"SecretBuyers$Reader", "meets", "(Ljava/lang/String;)Z"⟩, 11) := ⟨⟨by decide +kernel, by decide +kernel⟩, lw_t1 (List.mem_of_getElem? (i := 78) rfl), lw_t5 (List.mem_of_getElem? (i := 109) rfl), lw_t5 (List.mem_of_getElem? (i := 110) rfl)⟩
theorem lw_p24 : lw_okq (⟨"SecretBuyers", "works", "()V"⟩, 29) := ⟨⟨by decide +kernel, by decide +kernel⟩, lw_t1 (List.mem_of_getElem? (i := 42) rfl), lw_t5 (List.mem_of_getElem? (i := 139) rfl), lw_t5 (List.mem_of_getElem? (i := 140) rfl)⟩
theorem lw_p25 : lw_okq (⟨"SecretBuyers", "sees", "(LSecretBuyers$Visit;)V"⟩, 29) := ⟨⟨by decide +kernel, by decide +kernel⟩, lw_t1 (List.mem_of_getElem? (i := 42) rfl), lw_t5 (List.mem_of_getElem? (i := 147) rfl), lw_t5 (List.mem_of_getElem? (i := 148) rfl)⟩
theorem lw_p26 : lw_okq (⟨"SecretBuyers", "day", "()I"⟩, 29) := ⟨⟨by decide +kernel, by decide +kernel⟩, lw_t1 (List.mem_of_getElem? (i := 42) rfl), lw_t5 (List.mem_of_getElem? (i := 151) rfl), lw_t5 (List.mem_of_getElem? (i := 152) rfl)⟩
theorem lw_p27 : lw_okq (⟨"java/util/ArrayList", "rangeCheckForAdd", "(I)V"⟩, 3) := ⟨⟨by decide +kernel, by decide +kernel⟩, lw_t1 (List.mem_of_getElem? (i := 50) rfl), lw_t5 (List.mem_of_getElem? (i := 172) rfl), lw_t5 (List.mem_of_getElem? (i := 173) rfl)⟩
theorem lw_p28 : lw_okq (⟨"SecretBuyers", "scores", "(LSecretBuyers$Visit;)V"⟩, 29) := ⟨⟨by decide +kernel, by decide +kernel⟩, lw_t1 (List.mem_of_getElem? (i := 42) rfl), lw_t5 (List.mem_of_getElem? (i := 177) rfl), lw_t5 (List.mem_of_getElem? (i := 178) rfl)⟩
theorem lw_p29 : lw_okq (⟨"SecretBuyers$Brief", "asks", "(LSecretBuyers$Ask;LSecretBuyers$Visit;I)Z"⟩, 6) := ⟨⟨by decide +kernel, by decide +kernel⟩, lw_t3 (List.mem_of_getElem? (i := 35) rfl), lw_t5 (List.mem_of_getElem? (i := 185) rfl), lw_t5 (List.mem_of_getElem? (i := 186) rfl)⟩
theorem lw_p30 : lw_okq (⟨"SecretBuyers", "isFirstOf", "(LSecretBuyers$Visit;)Z"⟩, 29) := ⟨⟨by decide +kernel, by decide +kernel⟩, lw_t1 (List.mem_of_getElem? (i := 42) rfl), lw_t6 (List.mem_of_getElem? (i := 41) rfl), lw_t6 (List.mem_of_getElem? (i := 42) rfl)⟩
theorem lw_p31 : lw_okq (⟨"SecretBuyers", "seeks", "(IIZ)I"⟩, 29) := ⟨⟨by decide +kernel, by decide +kernel⟩, lw_t1 (List.mem_of_getElem? (i := 42) rfl), lw_t6 (List.mem_of_getElem? (i := 45) rfl), lw_t6 (List.mem_of_getElem? (i := 46) rfl)⟩
def lw_privs_2 : List (MethodName × Nat) := [(⟨"SecretBuyers$Reader", "e", "()LSecretBuyers$Exp;"⟩, 11), (⟨"SecretBuyers$Reader", "test", "()LSecretBuyers$Exp;"⟩, 11), (⟨"SecretBuyers$Reader", "sum", "()LSecretBuyers$Exp;"⟩, 11), (⟨"SecretBuyers$Reader", "term", "()LSecretBuyers$Exp;"⟩, 11), (⟨"SecretBuyers$Reader", "part", "()LSecretBuyers$Exp;"⟩, 11), (⟨"SecretBuyers$Reader", "number", "(II)I"⟩, 11), (⟨"SecretBuyers$Reader", "need", "(Ljava/lang/String;)V"⟩, 11), (⟨"SecretBuyers$Reader", "meets", "(Ljava/lang/String;)Z"⟩, 11), (⟨"SecretBuyers", "works", "()V"⟩, 29), (⟨"SecretBuyers", "sees", "(LSecretBuyers$Visit;)V"⟩, 29), (⟨"SecretBuyers", "day", "()I"⟩, 29), (⟨"java/util/ArrayList", "rangeCheckForAdd", "(I)V"⟩, 3), (⟨"SecretBuyers", "scores", "(LSecretBuyers$Visit;)V"⟩, 29), (⟨"SecretBuyers$Brief", "asks", "(LSecretBuyers$Ask;LSecretBuyers$Visit;I)Z"⟩, 6), (⟨"SecretBuyers", "isFirstOf", "(LSecretBuyers$Visit;)Z"⟩, 29), (⟨"SecretBuyers", "seeks", "(IIZ)I"⟩, 29)]
theorem lw_r2 : ∀ q ∈ lw_privs_2, lw_okq q := List.forall_mem_cons.mpr ⟨lw_p16, List.forall_mem_cons.mpr ⟨lw_p17, List.forall_mem_cons.mpr ⟨lw_p18, List.forall_mem_cons.mpr ⟨lw_p19, List.forall_mem_cons.mpr ⟨lw_p20, List.forall_mem_cons.mpr ⟨lw_p21, List.forall_mem_cons.mpr ⟨lw_p22, List.forall_mem_cons.mpr ⟨lw_p23, List.forall_mem_cons.mpr ⟨lw_p24, List.forall_mem_cons.mpr ⟨lw_p25, List.forall_mem_cons.mpr ⟨lw_p26, List.forall_mem_cons.mpr ⟨lw_p27, List.forall_mem_cons.mpr ⟨lw_p28, List.forall_mem_cons.mpr ⟨lw_p29, List.forall_mem_cons.mpr ⟨lw_p30, List.forall_mem_cons.mpr ⟨lw_p31, fun _ h => absurd h List.not_mem_nil⟩⟩⟩⟩⟩⟩⟩⟩⟩⟩⟩⟩⟩⟩⟩⟩
theorem lw_p32 : lw_okq (⟨"SecretBuyers", "parts", "(I)Z"⟩, 29) := ⟨⟨by decide +kernel, by decide +kernel⟩, lw_t1 (List.mem_of_getElem? (i := 42) rfl), lw_t6 (List.mem_of_getElem? (i := 62) rfl), lw_t6 (List.mem_of_getElem? (i := 63) rfl)⟩
theorem lw_p33 : lw_okq (⟨"SecretBuyers", "leans", "()V"⟩, 29) := ⟨⟨by decide +kernel, by decide +kernel⟩, lw_t1 (List.mem_of_getElem? (i := 42) rfl), lw_t6 (List.mem_of_getElem? (i := 66) rfl), lw_t6 (List.mem_of_getElem? (i := 67) rfl)⟩
theorem lw_p34 : lw_okq (⟨"SecretBuyers", "meanOf", "(III)I"⟩, 29) := ⟨⟨by decide +kernel, by decide +kernel⟩, lw_t1 (List.mem_of_getElem? (i := 42) rfl), lw_t6 (List.mem_of_getElem? (i := 93) rfl), lw_t6 (List.mem_of_getElem? (i := 94) rfl)⟩
theorem lw_p35 : lw_okq (⟨"SecretBuyers", "fair", "(LSecretBuyers$Visit;)I"⟩, 29) := ⟨⟨by decide +kernel, by decide +kernel⟩, lw_t1 (List.mem_of_getElem? (i := 42) rfl), lw_t6 (List.mem_of_getElem? (i := 98) rfl), lw_t6 (List.mem_of_getElem? (i := 99) rfl)⟩
theorem lw_p36 : lw_okq (⟨"SecretBuyers", "row", "(IIII)I"⟩, 29) := ⟨⟨by decide +kernel, by decide +kernel⟩, lw_t1 (List.mem_of_getElem? (i := 42) rfl), lw_t6 (List.mem_of_getElem? (i := 111) rfl), lw_t6 (List.mem_of_getElem? (i := 112) rfl)⟩
theorem lw_p37 : lw_okq (⟨"SecretBuyers", "mayGo", "(ILSecretBuyers$Shop;I)Z"⟩, 29) := ⟨⟨by decide +kernel, by decide +kernel⟩, lw_t1 (List.mem_of_getElem? (i := 42) rfl), lw_t6 (List.mem_of_getElem? (i := 125) rfl), lw_t6 (List.mem_of_getElem? (i := 126) rfl)⟩
theorem lw_p38 : lw_okq (⟨"SecretBuyers", "sumBy", "(IIII)I"⟩, 29) := ⟨⟨by decide +kernel, by decide +kernel⟩, lw_t1 (List.mem_of_getElem? (i := 42) rfl), lw_t6 (List.mem_of_getElem? (i := 136) rfl), lw_t6 (List.mem_of_getElem? (i := 137) rfl)⟩
theorem lw_p39 : lw_okq (⟨"SecretBuyers", "latest", "(I)LSecretBuyers$Visit;"⟩, 29) := ⟨⟨by decide +kernel, by decide +kernel⟩, lw_t1 (List.mem_of_getElem? (i := 42) rfl), lw_t6 (List.mem_of_getElem? (i := 145) rfl), lw_t6 (List.mem_of_getElem? (i := 146) rfl)⟩
theorem lw_p40 : lw_okq (⟨"SecretBuyers", "visitAt", "(I)LSecretBuyers$Visit;"⟩, 29) := ⟨⟨by decide +kernel, by decide +kernel⟩, lw_t1 (List.mem_of_getElem? (i := 42) rfl), lw_t6 (List.mem_of_getElem? (i := 173) rfl), lw_t6 (List.mem_of_getElem? (i := 174) rfl)⟩
theorem lw_p41 : lw_okq (⟨"SecretBuyersModel", "lay", "(J)V"⟩, 81) := ⟨⟨by decide +kernel, by decide +kernel⟩, lw_t6 (List.mem_of_getElem? (i := 233) rfl), lw_t6 (List.mem_of_getElem? (i := 231) rfl), lw_t6 (List.mem_of_getElem? (i := 232) rfl)⟩
theorem lw_p42 : lw_okq (⟨"SecretBuyersModel", "cutAll", "()V"⟩, 81) := ⟨⟨by decide +kernel, by decide +kernel⟩, lw_t6 (List.mem_of_getElem? (i := 233) rfl), lw_t8 (List.mem_of_getElem? (i := 26) rfl), lw_t8 (List.mem_of_getElem? (i := 27) rfl)⟩
theorem lw_p43 : lw_okq (⟨"SecretBuyersModel", "readLine", "()V"⟩, 81) := ⟨⟨by decide +kernel, by decide +kernel⟩, lw_t6 (List.mem_of_getElem? (i := 233) rfl), lw_t8 (List.mem_of_getElem? (i := 45) rfl), lw_t8 (List.mem_of_getElem? (i := 46) rfl)⟩
theorem lw_p44 : lw_okq (⟨"SecretBuyersModel", "isWord", "(I)Z"⟩, 81) := ⟨⟨by decide +kernel, by decide +kernel⟩, lw_t6 (List.mem_of_getElem? (i := 233) rfl), lw_t8 (List.mem_of_getElem? (i := 49) rfl), lw_t8 (List.mem_of_getElem? (i := 50) rfl)⟩
theorem lw_p45 : lw_okq (⟨"SecretBuyersModel", "wrong", "(I)V"⟩, 81) := ⟨⟨by decide +kernel, by decide +kernel⟩, lw_t6 (List.mem_of_getElem? (i := 233) rfl), lw_t8 (List.mem_of_getElem? (i := 53) rfl), lw_t8 (List.mem_of_getElem? (i := 54) rfl)⟩
theorem lw_p46 : lw_okq (⟨"SecretBuyersModel", "readLet", "(I)V"⟩, 81) := ⟨⟨by decide +kernel, by decide +kernel⟩, lw_t6 (List.mem_of_getElem? (i := 233) rfl), lw_t8 (List.mem_of_getElem? (i := 57) rfl), lw_t8 (List.mem_of_getElem? (i := 58) rfl)⟩
theorem lw_p47 : lw_okq (⟨"SecretBuyersModel", "isName", "()Z"⟩, 81) := ⟨⟨by decide +kernel, by decide +kernel⟩, lw_t6 (List.mem_of_getElem? (i := 233) rfl), lw_t8 (List.mem_of_getElem? (i := 61) rfl), lw_t8 (List.mem_of_getElem? (i := 62) rfl)⟩
def lw_privs_3 : List (MethodName × Nat) := [(⟨"SecretBuyers", "parts", "(I)Z"⟩, 29), (⟨"SecretBuyers", "leans", "()V"⟩, 29), (⟨"SecretBuyers", "meanOf", "(III)I"⟩, 29), (⟨"SecretBuyers", "fair", "(LSecretBuyers$Visit;)I"⟩, 29), (⟨"SecretBuyers", "row", "(IIII)I"⟩, 29), (⟨"SecretBuyers", "mayGo", "(ILSecretBuyers$Shop;I)Z"⟩, 29), (⟨"SecretBuyers", "sumBy", "(IIII)I"⟩, 29), (⟨"SecretBuyers", "latest", "(I)LSecretBuyers$Visit;"⟩, 29), (⟨"SecretBuyers", "visitAt", "(I)LSecretBuyers$Visit;"⟩, 29), (⟨"SecretBuyersModel", "lay", "(J)V"⟩, 81), (⟨"SecretBuyersModel", "cutAll", "()V"⟩, 81), (⟨"SecretBuyersModel", "readLine", "()V"⟩, 81), (⟨"SecretBuyersModel", "isWord", "(I)Z"⟩, 81), (⟨"SecretBuyersModel", "wrong", "(I)V"⟩, 81), (⟨"SecretBuyersModel", "readLet", "(I)V"⟩, 81), (⟨"SecretBuyersModel", "isName", "()Z"⟩, 81)]
theorem lw_r3 : ∀ q ∈ lw_privs_3, lw_okq q := List.forall_mem_cons.mpr ⟨lw_p32, List.forall_mem_cons.mpr ⟨lw_p33, List.forall_mem_cons.mpr ⟨lw_p34, List.forall_mem_cons.mpr ⟨lw_p35, List.forall_mem_cons.mpr ⟨lw_p36, List.forall_mem_cons.mpr ⟨lw_p37, List.forall_mem_cons.mpr ⟨lw_p38, List.forall_mem_cons.mpr ⟨lw_p39, List.forall_mem_cons.mpr ⟨lw_p40, List.forall_mem_cons.mpr ⟨lw_p41, List.forall_mem_cons.mpr ⟨lw_p42, List.forall_mem_cons.mpr ⟨lw_p43, List.forall_mem_cons.mpr ⟨lw_p44, List.forall_mem_cons.mpr ⟨lw_p45, List.forall_mem_cons.mpr ⟨lw_p46, List.forall_mem_cons.mpr ⟨lw_p47, fun _ h => absurd h List.not_mem_nil⟩⟩⟩⟩⟩⟩⟩⟩⟩⟩⟩⟩⟩⟩⟩⟩
theorem lw_p48 : lw_okq (⟨"SecretBuyersModel", "findName", "()I"⟩, 81) := ⟨⟨by decide +kernel, by decide +kernel⟩, lw_t6 (List.mem_of_getElem? (i := 233) rfl), lw_t8 (List.mem_of_getElem? (i := 65) rfl), lw_t8 (List.mem_of_getElem? (i := 66) rfl)⟩
theorem lw_p49 : lw_okq (⟨"SecretBuyersModel", "takeSign", "(I)V"⟩, 81) := ⟨⟨by decide +kernel, by decide +kernel⟩, lw_t6 (List.mem_of_getElem? (i := 233) rfl), lw_t8 (List.mem_of_getElem? (i := 69) rfl), lw_t8 (List.mem_of_getElem? (i := 70) rfl)⟩
theorem lw_p50 : lw_okq (⟨"SecretBuyersModel", "isSign", "(I)Z"⟩, 81) := ⟨⟨by decide +kernel, by decide +kernel⟩, lw_t6 (List.mem_of_getElem? (i := 233) rfl), lw_t8 (List.mem_of_getElem? (i := 73) rfl), lw_t8 (List.mem_of_getElem? (i := 74) rfl)⟩
theorem lw_p51 : lw_okq (⟨"SecretBuyersModel", "readTests", "()I"⟩, 81) := ⟨⟨by decide +kernel, by decide +kernel⟩, lw_t6 (List.mem_of_getElem? (i := 233) rfl), lw_t8 (List.mem_of_getElem? (i := 77) rfl), lw_t8 (List.mem_of_getElem? (i := 78) rfl)⟩
theorem lw_p52 : lw_okq (⟨"SecretBuyersModel", "all", "(I)V"⟩, 81) := ⟨⟨by decide +kernel, by decide +kernel⟩, lw_t6 (List.mem_of_getElem? (i := 233) rfl), lw_t8 (List.mem_of_getElem? (i := 81) rfl), lw_t8 (List.mem_of_getElem? (i := 82) rfl)⟩
theorem lw_p53 : lw_okq (⟨"SecretBuyersModel", "test", "(I)V"⟩, 81) := ⟨⟨by decide +kernel, by decide +kernel⟩, lw_t6 (List.mem_of_getElem? (i := 233) rfl), lw_t8 (List.mem_of_getElem? (i := 85) rfl), lw_t8 (List.mem_of_getElem? (i := 86) rfl)⟩
theorem lw_p54 : lw_okq (⟨"SecretBuyersModel", "sums", "(I)V"⟩, 81) := ⟨⟨by decide +kernel, by decide +kernel⟩, lw_t6 (List.mem_of_getElem? (i := 233) rfl), lw_t8 (List.mem_of_getElem? (i := 89) rfl), lw_t8 (List.mem_of_getElem? (i := 90) rfl)⟩
theorem lw_p55 : lw_okq (⟨"SecretBuyersModel", "products", "(I)V"⟩, 81) := ⟨⟨by decide +kernel, by decide +kernel⟩, lw_t6 (List.mem_of_getElem? (i := 233) rfl), lw_t8 (List.mem_of_getElem? (i := 93) rfl), lw_t8 (List.mem_of_getElem? (i := 94) rfl)⟩
theorem lw_p56 : lw_okq (⟨"SecretBuyersModel", "takePart", "(I)V"⟩, 81) := ⟨⟨by decide +kernel, by decide +kernel⟩, lw_t6 (List.mem_of_getElem? (i := 233) rfl), lw_t8 (List.mem_of_getElem? (i := 97) rfl), lw_t8 (List.mem_of_getElem? (i := 98) rfl)⟩
theorem lw_p57 : lw_okq (⟨"SecretBuyersModel", "hasWord", "(I)Z"⟩, 81) := ⟨⟨by decide +kernel, by decide +kernel⟩, lw_t6 (List.mem_of_getElem? (i := 233) rfl), lw_t8 (List.mem_of_getElem? (i := 101) rfl), lw_t8 (List.mem_of_getElem? (i := 102) rfl)⟩
theorem lw_p58 : lw_okq (⟨"SecretBuyersModel", "emit", "(II)V"⟩, 81) := ⟨⟨by decide +kernel, by decide +kernel⟩, lw_t6 (List.mem_of_getElem? (i := 233) rfl), lw_t8 (List.mem_of_getElem? (i := 105) rfl), lw_t8 (List.mem_of_getElem? (i := 106) rfl)⟩
theorem lw_p59 : lw_okq (⟨"SecretBuyersModel", "takeNumber", "(I)I"⟩, 81) := ⟨⟨by decide +kernel, by decide +kernel⟩, lw_t6 (List.mem_of_getElem? (i := 233) rfl), lw_t8 (List.mem_of_getElem? (i := 109) rfl), lw_t8 (List.mem_of_getElem? (i := 110) rfl)⟩
theorem lw_p60 : lw_okq (⟨"SecretBuyersModel", "hasSign", "(I)Z"⟩, 81) := ⟨⟨by decide +kernel, by decide +kernel⟩, lw_t6 (List.mem_of_getElem? (i := 233) rfl), lw_t8 (List.mem_of_getElem? (i := 113) rfl), lw_t8 (List.mem_of_getElem? (i := 114) rfl)⟩
theorem lw_p61 : lw_okq (⟨"SecretBuyersModel", "takeWord", "(I)V"⟩, 81) := ⟨⟨by decide +kernel, by decide +kernel⟩, lw_t6 (List.mem_of_getElem? (i := 233) rfl), lw_t8 (List.mem_of_getElem? (i := 117) rfl), lw_t8 (List.mem_of_getElem? (i := 118) rfl)⟩
theorem lw_p62 : lw_okq (⟨"SecretBuyersModel", "keeps", "(II)V"⟩, 81) := ⟨⟨by decide +kernel, by decide +kernel⟩, lw_t6 (List.mem_of_getElem? (i := 233) rfl), lw_t8 (List.mem_of_getElem? (i := 121) rfl), lw_t8 (List.mem_of_getElem? (i := 122) rfl)⟩
theorem lw_p63 : lw_okq (⟨"SecretBuyersModel", "isShop", "(I)Z"⟩, 81) := ⟨⟨by decide +kernel, by decide +kernel⟩, lw_t6 (List.mem_of_getElem? (i := 233) rfl), lw_t8 (List.mem_of_getElem? (i := 159) rfl), lw_t8 (List.mem_of_getElem? (i := 160) rfl)⟩
def lw_privs_4 : List (MethodName × Nat) := [(⟨"SecretBuyersModel", "findName", "()I"⟩, 81), (⟨"SecretBuyersModel", "takeSign", "(I)V"⟩, 81), (⟨"SecretBuyersModel", "isSign", "(I)Z"⟩, 81), (⟨"SecretBuyersModel", "readTests", "()I"⟩, 81), (⟨"SecretBuyersModel", "all", "(I)V"⟩, 81), (⟨"SecretBuyersModel", "test", "(I)V"⟩, 81), (⟨"SecretBuyersModel", "sums", "(I)V"⟩, 81), (⟨"SecretBuyersModel", "products", "(I)V"⟩, 81), (⟨"SecretBuyersModel", "takePart", "(I)V"⟩, 81), (⟨"SecretBuyersModel", "hasWord", "(I)Z"⟩, 81), (⟨"SecretBuyersModel", "emit", "(II)V"⟩, 81), (⟨"SecretBuyersModel", "takeNumber", "(I)I"⟩, 81), (⟨"SecretBuyersModel", "hasSign", "(I)Z"⟩, 81), (⟨"SecretBuyersModel", "takeWord", "(I)V"⟩, 81), (⟨"SecretBuyersModel", "keeps", "(II)V"⟩, 81), (⟨"SecretBuyersModel", "isShop", "(I)Z"⟩, 81)]
theorem lw_r4 : ∀ q ∈ lw_privs_4, lw_okq q := List.forall_mem_cons.mpr ⟨lw_p48, List.forall_mem_cons.mpr ⟨lw_p49, List.forall_mem_cons.mpr ⟨lw_p50, List.forall_mem_cons.mpr ⟨lw_p51, List.forall_mem_cons.mpr ⟨lw_p52, List.forall_mem_cons.mpr ⟨lw_p53, List.forall_mem_cons.mpr ⟨lw_p54, List.forall_mem_cons.mpr ⟨lw_p55, List.forall_mem_cons.mpr ⟨lw_p56, List.forall_mem_cons.mpr ⟨lw_p57, List.forall_mem_cons.mpr ⟨lw_p58, List.forall_mem_cons.mpr ⟨lw_p59, List.forall_mem_cons.mpr ⟨lw_p60, List.forall_mem_cons.mpr ⟨lw_p61, List.forall_mem_cons.mpr ⟨lw_p62, List.forall_mem_cons.mpr ⟨lw_p63, fun _ h => absurd h List.not_mem_nil⟩⟩⟩⟩⟩⟩⟩⟩⟩⟩⟩⟩⟩⟩⟩⟩
theorem lw_p64 : lw_okq (⟨"SecretBuyersModel", "isBuyer", "(I)Z"⟩, 81) := ⟨⟨by decide +kernel, by decide +kernel⟩, lw_t6 (List.mem_of_getElem? (i := 233) rfl), lw_t8 (List.mem_of_getElem? (i := 163) rfl), lw_t8 (List.mem_of_getElem? (i := 164) rfl)⟩
theorem lw_p65 : lw_okq (⟨"SecretBuyersModel", "visitsOf", "(II)I"⟩, 81) := ⟨⟨by decide +kernel, by decide +kernel⟩, lw_t6 (List.mem_of_getElem? (i := 233) rfl), lw_t8 (List.mem_of_getElem? (i := 167) rfl), lw_t8 (List.mem_of_getElem? (i := 168) rfl)⟩
theorem lw_p66 : lw_okq (⟨"SecretBuyersModel", "isSeen", "(I)Z"⟩, 81) := ⟨⟨by decide +kernel, by decide +kernel⟩, lw_t6 (List.mem_of_getElem? (i := 233) rfl), lw_t8 (List.mem_of_getElem? (i := 179) rfl), lw_t8 (List.mem_of_getElem? (i := 180) rfl)⟩
theorem lw_p67 : lw_okq (⟨"SecretBuyersModel", "viewDay", "()I"⟩, 81) := ⟨⟨by decide +kernel, by decide +kernel⟩, lw_t6 (List.mem_of_getElem? (i := 233) rfl), lw_t8 (List.mem_of_getElem? (i := 183) rfl), lw_t8 (List.mem_of_getElem? (i := 184) rfl)⟩
theorem lw_p68 : lw_okq (⟨"SecretBuyersModel", "findAll", "()V"⟩, 81) := ⟨⟨by decide +kernel, by decide +kernel⟩, lw_t6 (List.mem_of_getElem? (i := 233) rfl), lw_t8 (List.mem_of_getElem? (i := 187) rfl), lw_t8 (List.mem_of_getElem? (i := 188) rfl)⟩
theorem lw_p69 : lw_okq (⟨"SecretBuyersModel", "isAhead", "(II)Z"⟩, 81) := ⟨⟨by decide +kernel, by decide +kernel⟩, lw_t6 (List.mem_of_getElem? (i := 233) rfl), lw_t8 (List.mem_of_getElem? (i := 191) rfl), lw_t8 (List.mem_of_getElem? (i := 192) rfl)⟩
theorem lw_p70 : lw_okq (⟨"SecretBuyersModel", "latest", "(II)I"⟩, 81) := ⟨⟨by decide +kernel, by decide +kernel⟩, lw_t6 (List.mem_of_getElem? (i := 233) rfl), lw_t8 (List.mem_of_getElem? (i := 195) rfl), lw_t8 (List.mem_of_getElem? (i := 196) rfl)⟩
theorem lw_p71 : lw_okq (⟨"SecretBuyersModel", "formNow", "(I)I"⟩, 81) := ⟨⟨by decide +kernel, by decide +kernel⟩, lw_t6 (List.mem_of_getElem? (i := 233) rfl), lw_t8 (List.mem_of_getElem? (i := 199) rfl), lw_t8 (List.mem_of_getElem? (i := 200) rfl)⟩
theorem lw_p72 : lw_okq (⟨"SecretBuyersModel", "tells", "(III)V"⟩, 81) := ⟨⟨by decide +kernel, by decide +kernel⟩, lw_t6 (List.mem_of_getElem? (i := 233) rfl), lw_t8 (List.mem_of_getElem? (i := 203) rfl), lw_t8 (List.mem_of_getElem? (i := 204) rfl)⟩
theorem lw_p73 : lw_okq (⟨"SecretBuyersModel", "briefOf", "(I)I"⟩, 81) := ⟨⟨by decide +kernel, by decide +kernel⟩, lw_t6 (List.mem_of_getElem? (i := 233) rfl), lw_t8 (List.mem_of_getElem? (i := 210) rfl), lw_t8 (List.mem_of_getElem? (i := 211) rfl)⟩
theorem lw_p74 : lw_okq (⟨"SecretBuyersModel", "judges", "(I)V"⟩, 81) := ⟨⟨by decide +kernel, by decide +kernel⟩, lw_t6 (List.mem_of_getElem? (i := 233) rfl), lw_t8 (List.mem_of_getElem? (i := 214) rfl), lw_t8 (List.mem_of_getElem? (i := 215) rfl)⟩
theorem lw_p75 : lw_okq (⟨"SecretBuyersModel", "worth", "(I)I"⟩, 81) := ⟨⟨by decide +kernel, by decide +kernel⟩, lw_t6 (List.mem_of_getElem? (i := 233) rfl), lw_t8 (List.mem_of_getElem? (i := 218) rfl), lw_t8 (List.mem_of_getElem? (i := 219) rfl)⟩
theorem lw_p76 : lw_okq (⟨"SecretBuyersModel", "isAlone", "(I)Z"⟩, 81) := ⟨⟨by decide +kernel, by decide +kernel⟩, lw_t6 (List.mem_of_getElem? (i := 233) rfl), lw_t8 (List.mem_of_getElem? (i := 225) rfl), lw_t8 (List.mem_of_getElem? (i := 226) rfl)⟩
theorem lw_p77 : lw_okq (⟨"SecretBuyersModel", "findFewest", "(II)V"⟩, 81) := ⟨⟨by decide +kernel, by decide +kernel⟩, lw_t6 (List.mem_of_getElem? (i := 233) rfl), lw_t8 (List.mem_of_getElem? (i := 229) rfl), lw_t8 (List.mem_of_getElem? (i := 230) rfl)⟩
theorem lw_p78 : lw_okq (⟨"SecretBuyersModel", "areBoth", "(II)Z"⟩, 81) := ⟨⟨by decide +kernel, by decide +kernel⟩, lw_t6 (List.mem_of_getElem? (i := 233) rfl), lw_t8 (List.mem_of_getElem? (i := 233) rfl), lw_t8 (List.mem_of_getElem? (i := 234) rfl)⟩
theorem lw_p79 : lw_okq (⟨"SecretBuyersModel", "doesDo", "(I)Z"⟩, 81) := ⟨⟨by decide +kernel, by decide +kernel⟩, lw_t6 (List.mem_of_getElem? (i := 233) rfl), lw_t9 (List.mem_of_getElem? (i := 0) rfl), lw_t9 (List.mem_of_getElem? (i := 1) rfl)⟩
def lw_privs_5 : List (MethodName × Nat) := [(⟨"SecretBuyersModel", "isBuyer", "(I)Z"⟩, 81), (⟨"SecretBuyersModel", "visitsOf", "(II)I"⟩, 81), (⟨"SecretBuyersModel", "isSeen", "(I)Z"⟩, 81), (⟨"SecretBuyersModel", "viewDay", "()I"⟩, 81), (⟨"SecretBuyersModel", "findAll", "()V"⟩, 81), (⟨"SecretBuyersModel", "isAhead", "(II)Z"⟩, 81), (⟨"SecretBuyersModel", "latest", "(II)I"⟩, 81), (⟨"SecretBuyersModel", "formNow", "(I)I"⟩, 81), (⟨"SecretBuyersModel", "tells", "(III)V"⟩, 81), (⟨"SecretBuyersModel", "briefOf", "(I)I"⟩, 81), (⟨"SecretBuyersModel", "judges", "(I)V"⟩, 81), (⟨"SecretBuyersModel", "worth", "(I)I"⟩, 81), (⟨"SecretBuyersModel", "isAlone", "(I)Z"⟩, 81), (⟨"SecretBuyersModel", "findFewest", "(II)V"⟩, 81), (⟨"SecretBuyersModel", "areBoth", "(II)Z"⟩, 81), (⟨"SecretBuyersModel", "doesDo", "(I)Z"⟩, 81)]
theorem lw_r5 : ∀ q ∈ lw_privs_5, lw_okq q := List.forall_mem_cons.mpr ⟨lw_p64, List.forall_mem_cons.mpr ⟨lw_p65, List.forall_mem_cons.mpr ⟨lw_p66, List.forall_mem_cons.mpr ⟨lw_p67, List.forall_mem_cons.mpr ⟨lw_p68, List.forall_mem_cons.mpr ⟨lw_p69, List.forall_mem_cons.mpr ⟨lw_p70, List.forall_mem_cons.mpr ⟨lw_p71, List.forall_mem_cons.mpr ⟨lw_p72, List.forall_mem_cons.mpr ⟨lw_p73, List.forall_mem_cons.mpr ⟨lw_p74, List.forall_mem_cons.mpr ⟨lw_p75, List.forall_mem_cons.mpr ⟨lw_p76, List.forall_mem_cons.mpr ⟨lw_p77, List.forall_mem_cons.mpr ⟨lw_p78, List.forall_mem_cons.mpr ⟨lw_p79, fun _ h => absurd h List.not_mem_nil⟩⟩⟩⟩⟩⟩⟩⟩⟩⟩⟩⟩⟩⟩⟩⟩
theorem lw_p80 : lw_okq (⟨"SecretBuyersModel", "counts", "(I)Z"⟩, 81) := ⟨⟨by decide +kernel, by decide +kernel⟩, lw_t6 (List.mem_of_getElem? (i := 233) rfl), lw_t9 (List.mem_of_getElem? (i := 7) rfl), lw_t9 (List.mem_of_getElem? (i := 8) rfl)⟩
theorem lw_p81 : lw_okq (⟨"SecretBuyersModel", "findLeans", "()V"⟩, 81) := ⟨⟨by decide +kernel, by decide +kernel⟩, lw_t6 (List.mem_of_getElem? (i := 233) rfl), lw_t9 (List.mem_of_getElem? (i := 26) rfl), lw_t9 (List.mem_of_getElem? (i := 27) rfl)⟩
theorem lw_p82 : lw_okq (⟨"SecretBuyersModel", "isMeeting", "(II)Z"⟩, 81) := ⟨⟨by decide +kernel, by decide +kernel⟩, lw_t6 (List.mem_of_getElem? (i := 233) rfl), lw_t9 (List.mem_of_getElem? (i := 30) rfl), lw_t9 (List.mem_of_getElem? (i := 31) rfl)⟩
theorem lw_p83 : lw_okq (⟨"SecretBuyersModel", "fairOf", "(I)I"⟩, 81) := ⟨⟨by decide +kernel, by decide +kernel⟩, lw_t6 (List.mem_of_getElem? (i := 233) rfl), lw_t9 (List.mem_of_getElem? (i := 34) rfl), lw_t9 (List.mem_of_getElem? (i := 35) rfl)⟩
theorem lw_p84 : lw_okq (⟨"SecretBuyersModel", "hasMean", "(III)Z"⟩, 81) := ⟨⟨by decide +kernel, by decide +kernel⟩, lw_t6 (List.mem_of_getElem? (i := 233) rfl), lw_t9 (List.mem_of_getElem? (i := 50) rfl), lw_t9 (List.mem_of_getElem? (i := 51) rfl)⟩
theorem lw_p85 : lw_okq (⟨"SecretBuyersModel", "findMeans", "(II)V"⟩, 81) := ⟨⟨by decide +kernel, by decide +kernel⟩, lw_t6 (List.mem_of_getElem? (i := 233) rfl), lw_t9 (List.mem_of_getElem? (i := 57) rfl), lw_t9 (List.mem_of_getElem? (i := 58) rfl)⟩
theorem lw_p86 : lw_okq (⟨"SecretBuyersModel", "doubtOf", "(I)I"⟩, 81) := ⟨⟨by decide +kernel, by decide +kernel⟩, lw_t6 (List.mem_of_getElem? (i := 233) rfl), lw_t9 (List.mem_of_getElem? (i := 65) rfl), lw_t9 (List.mem_of_getElem? (i := 66) rfl)⟩
theorem lw_p87 : lw_okq (⟨"SecretBuyersModel", "areTwo", "(IIII)Z"⟩, 81) := ⟨⟨by decide +kernel, by decide +kernel⟩, lw_t6 (List.mem_of_getElem? (i := 233) rfl), lw_t9 (List.mem_of_getElem? (i := 73) rfl), lw_t9 (List.mem_of_getElem? (i := 74) rfl)⟩
theorem lw_p88 : lw_okq (⟨"SecretBuyersModel", "isLess", "(II)Z"⟩, 81) := ⟨⟨by decide +kernel, by decide +kernel⟩, lw_t6 (List.mem_of_getElem? (i := 233) rfl), lw_t9 (List.mem_of_getElem? (i := 77) rfl), lw_t9 (List.mem_of_getElem? (i := 78) rfl)⟩
theorem lw_p89 : lw_okq (⟨"SecretBuyersModel", "mayGo", "(III)Z"⟩, 81) := ⟨⟨by decide +kernel, by decide +kernel⟩, lw_t6 (List.mem_of_getElem? (i := 233) rfl), lw_t9 (List.mem_of_getElem? (i := 93) rfl), lw_t9 (List.mem_of_getElem? (i := 94) rfl)⟩
theorem lw_p90 : lw_okq (⟨"SecretBuyersModel", "gives", "(II)I"⟩, 81) := ⟨⟨by decide +kernel, by decide +kernel⟩, lw_t6 (List.mem_of_getElem? (i := 233) rfl), lw_t9 (List.mem_of_getElem? (i := 101) rfl), lw_t9 (List.mem_of_getElem? (i := 102) rfl)⟩
theorem lw_p91 : lw_okq (⟨"SecretBuyersModel", "wayOf", "(II)I"⟩, 81) := ⟨⟨by decide +kernel, by decide +kernel⟩, lw_t6 (List.mem_of_getElem? (i := 233) rfl), lw_t9 (List.mem_of_getElem? (i := 105) rfl), lw_t9 (List.mem_of_getElem? (i := 106) rfl)⟩
theorem lw_p92 : lw_okq (⟨"SecretBuyersModel", "sumBy", "(III)I"⟩, 81) := ⟨⟨by decide +kernel, by decide +kernel⟩, lw_t6 (List.mem_of_getElem? (i := 233) rfl), lw_t9 (List.mem_of_getElem? (i := 110) rfl), lw_t9 (List.mem_of_getElem? (i := 111) rfl)⟩
def lw_privs_6 : List (MethodName × Nat) := [(⟨"SecretBuyersModel", "counts", "(I)Z"⟩, 81), (⟨"SecretBuyersModel", "findLeans", "()V"⟩, 81), (⟨"SecretBuyersModel", "isMeeting", "(II)Z"⟩, 81), (⟨"SecretBuyersModel", "fairOf", "(I)I"⟩, 81), (⟨"SecretBuyersModel", "hasMean", "(III)Z"⟩, 81), (⟨"SecretBuyersModel", "findMeans", "(II)V"⟩, 81), (⟨"SecretBuyersModel", "doubtOf", "(I)I"⟩, 81), (⟨"SecretBuyersModel", "areTwo", "(IIII)Z"⟩, 81), (⟨"SecretBuyersModel", "isLess", "(II)Z"⟩, 81), (⟨"SecretBuyersModel", "mayGo", "(III)Z"⟩, 81), (⟨"SecretBuyersModel", "gives", "(II)I"⟩, 81), (⟨"SecretBuyersModel", "wayOf", "(II)I"⟩, 81), (⟨"SecretBuyersModel", "sumBy", "(III)I"⟩, 81)]
theorem lw_r6 : ∀ q ∈ lw_privs_6, lw_okq q := List.forall_mem_cons.mpr ⟨lw_p80, List.forall_mem_cons.mpr ⟨lw_p81, List.forall_mem_cons.mpr ⟨lw_p82, List.forall_mem_cons.mpr ⟨lw_p83, List.forall_mem_cons.mpr ⟨lw_p84, List.forall_mem_cons.mpr ⟨lw_p85, List.forall_mem_cons.mpr ⟨lw_p86, List.forall_mem_cons.mpr ⟨lw_p87, List.forall_mem_cons.mpr ⟨lw_p88, List.forall_mem_cons.mpr ⟨lw_p89, List.forall_mem_cons.mpr ⟨lw_p90, List.forall_mem_cons.mpr ⟨lw_p91, List.forall_mem_cons.mpr ⟨lw_p92, fun _ h => absurd h List.not_mem_nil⟩⟩⟩⟩⟩⟩⟩⟩⟩⟩⟩⟩⟩
def lw_privs : List (MethodName × Nat) := lw_privs_1 ++ (lw_privs_2 ++ (lw_privs_3 ++ (lw_privs_4 ++ (lw_privs_5 ++ (lw_privs_6)))))
def lw_tbl : List Cond := k2_sels lw_privs ++ tables_1
theorem lw_privs_ok : ∀ q ∈ lw_privs, lw_okq q := by
  show ∀ q ∈ lw_privs_1 ++ (lw_privs_2 ++ (lw_privs_3 ++ (lw_privs_4 ++ (lw_privs_5 ++ (lw_privs_6))))), lw_okq q
  exact List.forall_mem_append.mpr ⟨lw_r1, List.forall_mem_append.mpr ⟨lw_r2, List.forall_mem_append.mpr ⟨lw_r3, List.forall_mem_append.mpr ⟨lw_r4, List.forall_mem_append.mpr ⟨lw_r5, lw_r6⟩⟩⟩⟩⟩
-- ===== ONE list of words for every method: the tables' words that hold all through a run =====
def lw_all : List Cond := lw_tbl.filter goodWord
/-- a word of the tables by its place: claim/WORDS.tsv -/
theorem lw_w {w : Cond} (i : Nat) (h : lw_tbl[i]? = some w) (g : goodWord w = true) : w ∈ lw_all := List.mem_filter.mpr ⟨List.mem_of_getElem? h, g⟩
theorem lw_all_tbl {w : Cond} (h : w ∈ lw_all) : w ∈ lw_tbl := (List.mem_filter.mp h).1
theorem lw_self : GoodIn lw_all lw_all := fun w h => ⟨h, good_of_word (List.mem_filter.mp h).2⟩
/-- a class's field words, by their places -/
theorem lw_in (ws : List Cond) (ps : List Nat) (hp : ws = ps.filterMap (fun i => lw_tbl[i]?)) (hg : ws.all goodWord = true) : ∀ w ∈ ws, w ∈ lw_all := by
  intro w h
  have h1 := List.all_eq_true.mp hg w h
  rw [hp] at h
  obtain ⟨i, -, hi⟩ := List.mem_filterMap.mp h
  exact lw_w i hi h1
/-- the words of a contract for the method y with code b, L locals, answer r -/
abbrev ws_ (y : MethodName) (b : ByteArray) (L : Nat) (r : Option FieldType) : List Cond := Cond.code y b L r :: lw_all
theorem lw_meth {y : MethodName} {b : ByteArray} {L : Nat} {r : Option FieldType} (h : Cond.code y b L r ∈ lw_all) : GoodIn lw_all (ws_ y b L r) := by
  intro w hw
  rcases List.mem_cons.mp hw with e | e
  · rw [e]
    exact lw_self _ h
  · exact lw_self _ e
theorem lw_app {a c : List Cond} (ha : ∀ w ∈ a, w ∈ lw_all) (hc : GoodIn lw_all c) : GoodIn lw_all (a ++ c) := by
  intro w hw
  rcases List.mem_append.mp hw with e | e
  · exact lw_self w (ha w e)
  · exact hc w e
/-- what a call through an object asks: cwV n hts (lw_V ..) -/
theorem lw_V {own : String} {idx : Nat} {C : String} {y : MethodName} {b : ByteArray} {L : Nat} {r : Option FieldType} (h1 : Cond.methodLink own idx y ∈ lw_all) (h2 : Cond.instanceMethod y ∈ lw_all) (h3 : Cond.selects C y y ∈ lw_all) (h4 : Cond.initialized C ∈ lw_all) (h5 : Cond.code y b L r ∈ lw_all) : GoodIn lw_all (wsV own idx C y (ws_ y b L r)) := by
  refine lw_app ?_ (lw_meth h5)
  intro w hw
  simp only [List.mem_cons, List.not_mem_nil, or_false] at hw
  rcases hw with e | e | e | e
  · rw [e]; exact h1
  · rw [e]; exact h2
  · rw [e]; exact h3
  · rw [e]; exact h4
/-- what a static call asks: va_cwS n hts (lw_S ..) -/
theorem lw_S {own : String} {idx : Nat} {y : MethodName} {b : ByteArray} {L : Nat} {r : Option FieldType} (h1 : Cond.methodLink own idx y ∈ lw_all) (h2 : Cond.static y ∈ lw_all) (h3 : Cond.initialized y.cls ∈ lw_all) (h4 : Cond.code y b L r ∈ lw_all) : GoodIn lw_all (va_wsS own idx y (ws_ y b L r)) := by
  refine lw_app ?_ (lw_meth h4)
  intro w hw
  simp only [List.mem_cons, List.not_mem_nil, or_false] at hw
  rcases hw with e | e | e
  · rw [e]; exact h1
  · rw [e]; exact h2
  · rw [e]; exact h3
/-- the words of a contract for a method WITH HANDLERS (hh: its table) -/
abbrev wsW_ (y : MethodName) (b : ByteArray) (L : Nat) (r : Option FieldType) (hh : List (Nat × Nat × Nat × Nat)) : List Cond := Cond.codeWith y b L r hh :: lw_all
theorem lw_methW {y : MethodName} {b : ByteArray} {L : Nat} {r : Option FieldType} {hh : List (Nat × Nat × Nat × Nat)} (h : Cond.codeWith y b L r hh ∈ lw_all) : GoodIn lw_all (wsW_ y b L r hh) := by
  intro w hw
  rcases List.mem_cons.mp hw with e | e
  · rw [e]
    exact lw_self _ h
  · exact lw_self _ e
/-- any list of words by their places (lw_in), good -/
theorem lw_good {ws : List Cond} (h : ∀ w ∈ ws, w ∈ lw_all) : GoodIn lw_all ws := fun w hw => lw_self w (h w hw)
/-- what a call of a method with handlers asks: vx_cwVW n hts (lw_VW ..), vx_cwSW n hts (lw_SW ..) -/
theorem lw_VW {own : String} {idx : Nat} {C : String} {y : MethodName} {b : ByteArray} {L : Nat} {r : Option FieldType} {hh : List (Nat × Nat × Nat × Nat)} (h1 : Cond.methodLink own idx y ∈ lw_all) (h2 : Cond.instanceMethod y ∈ lw_all) (h3 : Cond.selects C y y ∈ lw_all) (h4 : Cond.initialized C ∈ lw_all) (h5 : Cond.codeWith y b L r hh ∈ lw_all) : GoodIn lw_all (wsV own idx C y (wsW_ y b L r hh)) := by
  refine lw_app ?_ (lw_methW h5)
  intro w hw
  simp only [List.mem_cons, List.not_mem_nil, or_false] at hw
  rcases hw with e | e | e | e
  · rw [e]; exact h1
  · rw [e]; exact h2
  · rw [e]; exact h3
  · rw [e]; exact h4
theorem lw_SW {own : String} {idx : Nat} {y : MethodName} {b : ByteArray} {L : Nat} {r : Option FieldType} {hh : List (Nat × Nat × Nat × Nat)} (h1 : Cond.methodLink own idx y ∈ lw_all) (h2 : Cond.static y ∈ lw_all) (h3 : Cond.initialized y.cls ∈ lw_all) (h4 : Cond.codeWith y b L r hh ∈ lw_all) : GoodIn lw_all (va_wsS own idx y (wsW_ y b L r hh)) := by
  refine lw_app ?_ (lw_methW h4)
  intro w hw
  simp only [List.mem_cons, List.not_mem_nil, or_false] at hw
  rcases hw with e | e | e
  · rw [e]; exact h1
  · rw [e]; exact h2
  · rw [e]; exact h3
/-- a word by its place in its run of the tables -/
theorem lw_at {r : List Cond} (hr : ∀ w ∈ r, w ∈ lw_tbl) {w : Cond} (i : Nat) (h : r[i]? = some w) : w ∈ lw_tbl := hr w (List.mem_of_getElem? h)
theorem lw_g {w : Cond} (h : w ∈ lw_tbl) (g : goodWord w = true) : w ∈ lw_all := List.mem_filter.mpr ⟨h, g⟩
theorem lw_ms : ∀ w ∈ k2_sels lw_privs, w ∈ lw_tbl := fun w h => show w ∈ k2_sels lw_privs ++ tables_1 from List.mem_append_left _ h
theorem lw_m1 : ∀ w ∈ tables_1_1, w ∈ lw_tbl := fun w h => show w ∈ k2_sels lw_privs ++ tables_1 from List.mem_append_right (k2_sels lw_privs) (show w ∈ tables_1 from List.mem_append_left _ h)
theorem lw_m2 : ∀ w ∈ tables_1_2, w ∈ lw_tbl := fun w h => show w ∈ k2_sels lw_privs ++ tables_1 from List.mem_append_right (k2_sels lw_privs) (show w ∈ tables_1 from List.mem_append_right _ (List.mem_append_left _ h))
theorem lw_m3 : ∀ w ∈ tables_1_3, w ∈ lw_tbl := fun w h => show w ∈ k2_sels lw_privs ++ tables_1 from List.mem_append_right (k2_sels lw_privs) (show w ∈ tables_1 from List.mem_append_right _ (List.mem_append_right _ (List.mem_append_left _ h)))
theorem lw_m4 : ∀ w ∈ tables_1_4, w ∈ lw_tbl := fun w h => show w ∈ k2_sels lw_privs ++ tables_1 from List.mem_append_right (k2_sels lw_privs) (show w ∈ tables_1 from List.mem_append_right _ (List.mem_append_right _ (List.mem_append_right _ (List.mem_append_left _ h))))
theorem lw_m5 : ∀ w ∈ tables_1_5, w ∈ lw_tbl := fun w h => show w ∈ k2_sels lw_privs ++ tables_1 from List.mem_append_right (k2_sels lw_privs) (show w ∈ tables_1 from List.mem_append_right _ (List.mem_append_right _ (List.mem_append_right _ (List.mem_append_right _ (List.mem_append_left _ h)))))
theorem lw_m6 : ∀ w ∈ tables_1_6, w ∈ lw_tbl := fun w h => show w ∈ k2_sels lw_privs ++ tables_1 from List.mem_append_right (k2_sels lw_privs) (show w ∈ tables_1 from List.mem_append_right _ (List.mem_append_right _ (List.mem_append_right _ (List.mem_append_right _ (List.mem_append_right _ (List.mem_append_left _ h))))))
theorem lw_m7 : ∀ w ∈ tables_1_7, w ∈ lw_tbl := fun w h => show w ∈ k2_sels lw_privs ++ tables_1 from List.mem_append_right (k2_sels lw_privs) (show w ∈ tables_1 from List.mem_append_right _ (List.mem_append_right _ (List.mem_append_right _ (List.mem_append_right _ (List.mem_append_right _ (List.mem_append_right _ (List.mem_append_left _ h)))))))
theorem lw_m8 : ∀ w ∈ tables_1_8, w ∈ lw_tbl := fun w h => show w ∈ k2_sels lw_privs ++ tables_1 from List.mem_append_right (k2_sels lw_privs) (show w ∈ tables_1 from List.mem_append_right _ (List.mem_append_right _ (List.mem_append_right _ (List.mem_append_right _ (List.mem_append_right _ (List.mem_append_right _ (List.mem_append_right _ (List.mem_append_left _ h))))))))
theorem lw_m9 : ∀ w ∈ tables_1_9, w ∈ lw_tbl := fun w h => show w ∈ k2_sels lw_privs ++ tables_1 from List.mem_append_right (k2_sels lw_privs) (show w ∈ tables_1 from List.mem_append_right _ (List.mem_append_right _ (List.mem_append_right _ (List.mem_append_right _ (List.mem_append_right _ (List.mem_append_right _ (List.mem_append_right _ (List.mem_append_right _ h))))))))
theorem qs0 : (Cond.selects "SecretBuyers" ⟨"SecretBuyers", "changed", "()Z"⟩ ⟨"SecretBuyers", "changed", "()Z"⟩) ∈ lw_all := lw_g (lw_at lw_ms 0 rfl) rfl
theorem qs1 : (Cond.selects "java/util/ArrayList" ⟨"java/util/ArrayList", "add", "(Ljava/lang/Object;[Ljava/lang/Object;I)V"⟩ ⟨"java/util/ArrayList", "add", "(Ljava/lang/Object;[Ljava/lang/Object;I)V"⟩) ∈ lw_all := lw_g (lw_at lw_ms 1 rfl) rfl
theorem qs2 : (Cond.selects "java/util/ArrayList" ⟨"java/util/ArrayList", "grow", "()[Ljava/lang/Object;"⟩ ⟨"java/util/ArrayList", "grow", "()[Ljava/lang/Object;"⟩) ∈ lw_all := lw_g (lw_at lw_ms 2 rfl) rfl
theorem qs3 : (Cond.selects "java/util/ArrayList" ⟨"java/util/ArrayList", "grow", "(I)[Ljava/lang/Object;"⟩ ⟨"java/util/ArrayList", "grow", "(I)[Ljava/lang/Object;"⟩) ∈ lw_all := lw_g (lw_at lw_ms 3 rfl) rfl
theorem qs4 : (Cond.selects "SecretBuyers" ⟨"SecretBuyers", "isShop", "(I)Z"⟩ ⟨"SecretBuyers", "isShop", "(I)Z"⟩) ∈ lw_all := lw_g (lw_at lw_ms 4 rfl) rfl
theorem qs5 : (Cond.selects "SecretBuyers" ⟨"SecretBuyers", "isBuyer", "(I)Z"⟩ ⟨"SecretBuyers", "isBuyer", "(I)Z"⟩) ∈ lw_all := lw_g (lw_at lw_ms 5 rfl) rfl
theorem qs6 : (Cond.selects "SecretBuyers" ⟨"SecretBuyers", "isVisit", "(I)Z"⟩ ⟨"SecretBuyers", "isVisit", "(I)Z"⟩) ∈ lw_all := lw_g (lw_at lw_ms 6 rfl) rfl
theorem qs7 : (Cond.selects "SecretBuyers$Reader" ⟨"SecretBuyers$Reader", "next", "()V"⟩ ⟨"SecretBuyers$Reader", "next", "()V"⟩) ∈ lw_all := lw_g (lw_at lw_ms 7 rfl) rfl
theorem qs8 : (Cond.selects "SecretBuyers$Reader" ⟨"SecretBuyers$Reader", "at", "(I)I"⟩ ⟨"SecretBuyers$Reader", "at", "(I)I"⟩) ∈ lw_all := lw_g (lw_at lw_ms 8 rfl) rfl
theorem qs9 : (Cond.selects "SecretBuyers$Reader" ⟨"SecretBuyers$Reader", "which", "(Ljava/lang/String;)I"⟩ ⟨"SecretBuyers$Reader", "which", "(Ljava/lang/String;)I"⟩) ∈ lw_all := lw_g (lw_at lw_ms 9 rfl) rfl
theorem qs10 : (Cond.selects "SecretBuyers$Reader" ⟨"SecretBuyers$Reader", "wrong", "(I)LSecretBuyers$Wrong;"⟩ ⟨"SecretBuyers$Reader", "wrong", "(I)LSecretBuyers$Wrong;"⟩) ∈ lw_all := lw_g (lw_at lw_ms 10 rfl) rfl
theorem qs11 : (Cond.selects "java/lang/Throwable" ⟨"java/lang/Throwable", "fillInStackTrace", "(I)Ljava/lang/Throwable;"⟩ ⟨"java/lang/Throwable", "fillInStackTrace", "(I)Ljava/lang/Throwable;"⟩) ∈ lw_all := lw_g (lw_at lw_ms 11 rfl) rfl
theorem qs12 : (Cond.selects "SecretBuyers$Reader" ⟨"SecretBuyers$Reader", "let", "()V"⟩ ⟨"SecretBuyers$Reader", "let", "()V"⟩) ∈ lw_all := lw_g (lw_at lw_ms 12 rfl) rfl
theorem qs13 : (Cond.selects "SecretBuyers$Reader" ⟨"SecretBuyers$Reader", "name", "()Ljava/lang/String;"⟩ ⟨"SecretBuyers$Reader", "name", "()Ljava/lang/String;"⟩) ∈ lw_all := lw_g (lw_at lw_ms 13 rfl) rfl
theorem qs14 : (Cond.selects "SecretBuyers$Reader" ⟨"SecretBuyers$Reader", "need", "(C)V"⟩ ⟨"SecretBuyers$Reader", "need", "(C)V"⟩) ∈ lw_all := lw_g (lw_at lw_ms 14 rfl) rfl
theorem qs15 : (Cond.selects "SecretBuyers$Reader" ⟨"SecretBuyers$Reader", "isSign", "(C)Z"⟩ ⟨"SecretBuyers$Reader", "isSign", "(C)Z"⟩) ∈ lw_all := lw_g (lw_at lw_ms 15 rfl) rfl
theorem qs16 : (Cond.selects "SecretBuyers$Reader" ⟨"SecretBuyers$Reader", "e", "()LSecretBuyers$Exp;"⟩ ⟨"SecretBuyers$Reader", "e", "()LSecretBuyers$Exp;"⟩) ∈ lw_all := lw_g (lw_at lw_ms 16 rfl) rfl
theorem qs17 : (Cond.selects "SecretBuyers$Reader" ⟨"SecretBuyers$Reader", "test", "()LSecretBuyers$Exp;"⟩ ⟨"SecretBuyers$Reader", "test", "()LSecretBuyers$Exp;"⟩) ∈ lw_all := lw_g (lw_at lw_ms 17 rfl) rfl
theorem qs18 : (Cond.selects "SecretBuyers$Reader" ⟨"SecretBuyers$Reader", "sum", "()LSecretBuyers$Exp;"⟩ ⟨"SecretBuyers$Reader", "sum", "()LSecretBuyers$Exp;"⟩) ∈ lw_all := lw_g (lw_at lw_ms 18 rfl) rfl
theorem qs19 : (Cond.selects "SecretBuyers$Reader" ⟨"SecretBuyers$Reader", "term", "()LSecretBuyers$Exp;"⟩ ⟨"SecretBuyers$Reader", "term", "()LSecretBuyers$Exp;"⟩) ∈ lw_all := lw_g (lw_at lw_ms 19 rfl) rfl
theorem qs20 : (Cond.selects "SecretBuyers$Reader" ⟨"SecretBuyers$Reader", "part", "()LSecretBuyers$Exp;"⟩ ⟨"SecretBuyers$Reader", "part", "()LSecretBuyers$Exp;"⟩) ∈ lw_all := lw_g (lw_at lw_ms 20 rfl) rfl
theorem qs21 : (Cond.selects "SecretBuyers$Reader" ⟨"SecretBuyers$Reader", "number", "(II)I"⟩ ⟨"SecretBuyers$Reader", "number", "(II)I"⟩) ∈ lw_all := lw_g (lw_at lw_ms 21 rfl) rfl
theorem qs22 : (Cond.selects "SecretBuyers$Reader" ⟨"SecretBuyers$Reader", "need", "(Ljava/lang/String;)V"⟩ ⟨"SecretBuyers$Reader", "need", "(Ljava/lang/String;)V"⟩) ∈ lw_all := lw_g (lw_at lw_ms 22 rfl) rfl
theorem qs23 : (Cond.selects "SecretBuyers$Reader" ⟨"SecretBuyers$Reader", "meets", "(Ljava/lang/String;)Z"⟩ ⟨"SecretBuyers$Reader", "meets", "(Ljava/lang/String;)Z"⟩) ∈ lw_all := lw_g (lw_at lw_ms 23 rfl) rfl
theorem qs24 : (Cond.selects "SecretBuyers" ⟨"SecretBuyers", "works", "()V"⟩ ⟨"SecretBuyers", "works", "()V"⟩) ∈ lw_all := lw_g (lw_at lw_ms 24 rfl) rfl
theorem qs25 : (Cond.selects "SecretBuyers" ⟨"SecretBuyers", "sees", "(LSecretBuyers$Visit;)V"⟩ ⟨"SecretBuyers", "sees", "(LSecretBuyers$Visit;)V"⟩) ∈ lw_all := lw_g (lw_at lw_ms 25 rfl) rfl
theorem qs26 : (Cond.selects "SecretBuyers" ⟨"SecretBuyers", "day", "()I"⟩ ⟨"SecretBuyers", "day", "()I"⟩) ∈ lw_all := lw_g (lw_at lw_ms 26 rfl) rfl
theorem qs27 : (Cond.selects "java/util/ArrayList" ⟨"java/util/ArrayList", "rangeCheckForAdd", "(I)V"⟩ ⟨"java/util/ArrayList", "rangeCheckForAdd", "(I)V"⟩) ∈ lw_all := lw_g (lw_at lw_ms 27 rfl) rfl
theorem qs28 : (Cond.selects "SecretBuyers" ⟨"SecretBuyers", "scores", "(LSecretBuyers$Visit;)V"⟩ ⟨"SecretBuyers", "scores", "(LSecretBuyers$Visit;)V"⟩) ∈ lw_all := lw_g (lw_at lw_ms 28 rfl) rfl
theorem qs29 : (Cond.selects "SecretBuyers$Brief" ⟨"SecretBuyers$Brief", "asks", "(LSecretBuyers$Ask;LSecretBuyers$Visit;I)Z"⟩ ⟨"SecretBuyers$Brief", "asks", "(LSecretBuyers$Ask;LSecretBuyers$Visit;I)Z"⟩) ∈ lw_all := lw_g (lw_at lw_ms 29 rfl) rfl
theorem qs30 : (Cond.selects "SecretBuyers" ⟨"SecretBuyers", "isFirstOf", "(LSecretBuyers$Visit;)Z"⟩ ⟨"SecretBuyers", "isFirstOf", "(LSecretBuyers$Visit;)Z"⟩) ∈ lw_all := lw_g (lw_at lw_ms 30 rfl) rfl
theorem qs31 : (Cond.selects "SecretBuyers" ⟨"SecretBuyers", "seeks", "(IIZ)I"⟩ ⟨"SecretBuyers", "seeks", "(IIZ)I"⟩) ∈ lw_all := lw_g (lw_at lw_ms 31 rfl) rfl
theorem qs32 : (Cond.selects "SecretBuyers" ⟨"SecretBuyers", "parts", "(I)Z"⟩ ⟨"SecretBuyers", "parts", "(I)Z"⟩) ∈ lw_all := lw_g (lw_at lw_ms 32 rfl) rfl
theorem qs33 : (Cond.selects "SecretBuyers" ⟨"SecretBuyers", "leans", "()V"⟩ ⟨"SecretBuyers", "leans", "()V"⟩) ∈ lw_all := lw_g (lw_at lw_ms 33 rfl) rfl
theorem qs34 : (Cond.selects "SecretBuyers" ⟨"SecretBuyers", "meanOf", "(III)I"⟩ ⟨"SecretBuyers", "meanOf", "(III)I"⟩) ∈ lw_all := lw_g (lw_at lw_ms 34 rfl) rfl
theorem qs35 : (Cond.selects "SecretBuyers" ⟨"SecretBuyers", "fair", "(LSecretBuyers$Visit;)I"⟩ ⟨"SecretBuyers", "fair", "(LSecretBuyers$Visit;)I"⟩) ∈ lw_all := lw_g (lw_at lw_ms 35 rfl) rfl
theorem qs36 : (Cond.selects "SecretBuyers" ⟨"SecretBuyers", "row", "(IIII)I"⟩ ⟨"SecretBuyers", "row", "(IIII)I"⟩) ∈ lw_all := lw_g (lw_at lw_ms 36 rfl) rfl
theorem qs37 : (Cond.selects "SecretBuyers" ⟨"SecretBuyers", "mayGo", "(ILSecretBuyers$Shop;I)Z"⟩ ⟨"SecretBuyers", "mayGo", "(ILSecretBuyers$Shop;I)Z"⟩) ∈ lw_all := lw_g (lw_at lw_ms 37 rfl) rfl
theorem qs38 : (Cond.selects "SecretBuyers" ⟨"SecretBuyers", "sumBy", "(IIII)I"⟩ ⟨"SecretBuyers", "sumBy", "(IIII)I"⟩) ∈ lw_all := lw_g (lw_at lw_ms 38 rfl) rfl
theorem qs39 : (Cond.selects "SecretBuyers" ⟨"SecretBuyers", "latest", "(I)LSecretBuyers$Visit;"⟩ ⟨"SecretBuyers", "latest", "(I)LSecretBuyers$Visit;"⟩) ∈ lw_all := lw_g (lw_at lw_ms 39 rfl) rfl
theorem qs40 : (Cond.selects "SecretBuyers" ⟨"SecretBuyers", "visitAt", "(I)LSecretBuyers$Visit;"⟩ ⟨"SecretBuyers", "visitAt", "(I)LSecretBuyers$Visit;"⟩) ∈ lw_all := lw_g (lw_at lw_ms 40 rfl) rfl
theorem qs41 : (Cond.selects "SecretBuyersModel" ⟨"SecretBuyersModel", "lay", "(J)V"⟩ ⟨"SecretBuyersModel", "lay", "(J)V"⟩) ∈ lw_all := lw_g (lw_at lw_ms 41 rfl) rfl
theorem qs42 : (Cond.selects "SecretBuyersModel" ⟨"SecretBuyersModel", "cutAll", "()V"⟩ ⟨"SecretBuyersModel", "cutAll", "()V"⟩) ∈ lw_all := lw_g (lw_at lw_ms 42 rfl) rfl
theorem qs43 : (Cond.selects "SecretBuyersModel" ⟨"SecretBuyersModel", "readLine", "()V"⟩ ⟨"SecretBuyersModel", "readLine", "()V"⟩) ∈ lw_all := lw_g (lw_at lw_ms 43 rfl) rfl
theorem qs44 : (Cond.selects "SecretBuyersModel" ⟨"SecretBuyersModel", "isWord", "(I)Z"⟩ ⟨"SecretBuyersModel", "isWord", "(I)Z"⟩) ∈ lw_all := lw_g (lw_at lw_ms 44 rfl) rfl
theorem qs45 : (Cond.selects "SecretBuyersModel" ⟨"SecretBuyersModel", "wrong", "(I)V"⟩ ⟨"SecretBuyersModel", "wrong", "(I)V"⟩) ∈ lw_all := lw_g (lw_at lw_ms 45 rfl) rfl
theorem qs46 : (Cond.selects "SecretBuyersModel" ⟨"SecretBuyersModel", "readLet", "(I)V"⟩ ⟨"SecretBuyersModel", "readLet", "(I)V"⟩) ∈ lw_all := lw_g (lw_at lw_ms 46 rfl) rfl
theorem qs47 : (Cond.selects "SecretBuyersModel" ⟨"SecretBuyersModel", "isName", "()Z"⟩ ⟨"SecretBuyersModel", "isName", "()Z"⟩) ∈ lw_all := lw_g (lw_at lw_ms 47 rfl) rfl
theorem qs48 : (Cond.selects "SecretBuyersModel" ⟨"SecretBuyersModel", "findName", "()I"⟩ ⟨"SecretBuyersModel", "findName", "()I"⟩) ∈ lw_all := lw_g (lw_at lw_ms 48 rfl) rfl
theorem qs49 : (Cond.selects "SecretBuyersModel" ⟨"SecretBuyersModel", "takeSign", "(I)V"⟩ ⟨"SecretBuyersModel", "takeSign", "(I)V"⟩) ∈ lw_all := lw_g (lw_at lw_ms 49 rfl) rfl
theorem qs50 : (Cond.selects "SecretBuyersModel" ⟨"SecretBuyersModel", "isSign", "(I)Z"⟩ ⟨"SecretBuyersModel", "isSign", "(I)Z"⟩) ∈ lw_all := lw_g (lw_at lw_ms 50 rfl) rfl
theorem qs51 : (Cond.selects "SecretBuyersModel" ⟨"SecretBuyersModel", "readTests", "()I"⟩ ⟨"SecretBuyersModel", "readTests", "()I"⟩) ∈ lw_all := lw_g (lw_at lw_ms 51 rfl) rfl
theorem qs52 : (Cond.selects "SecretBuyersModel" ⟨"SecretBuyersModel", "all", "(I)V"⟩ ⟨"SecretBuyersModel", "all", "(I)V"⟩) ∈ lw_all := lw_g (lw_at lw_ms 52 rfl) rfl
theorem qs53 : (Cond.selects "SecretBuyersModel" ⟨"SecretBuyersModel", "test", "(I)V"⟩ ⟨"SecretBuyersModel", "test", "(I)V"⟩) ∈ lw_all := lw_g (lw_at lw_ms 53 rfl) rfl
theorem qs54 : (Cond.selects "SecretBuyersModel" ⟨"SecretBuyersModel", "sums", "(I)V"⟩ ⟨"SecretBuyersModel", "sums", "(I)V"⟩) ∈ lw_all := lw_g (lw_at lw_ms 54 rfl) rfl
theorem qs55 : (Cond.selects "SecretBuyersModel" ⟨"SecretBuyersModel", "products", "(I)V"⟩ ⟨"SecretBuyersModel", "products", "(I)V"⟩) ∈ lw_all := lw_g (lw_at lw_ms 55 rfl) rfl
theorem qs56 : (Cond.selects "SecretBuyersModel" ⟨"SecretBuyersModel", "takePart", "(I)V"⟩ ⟨"SecretBuyersModel", "takePart", "(I)V"⟩) ∈ lw_all := lw_g (lw_at lw_ms 56 rfl) rfl
theorem qs57 : (Cond.selects "SecretBuyersModel" ⟨"SecretBuyersModel", "hasWord", "(I)Z"⟩ ⟨"SecretBuyersModel", "hasWord", "(I)Z"⟩) ∈ lw_all := lw_g (lw_at lw_ms 57 rfl) rfl
theorem qs58 : (Cond.selects "SecretBuyersModel" ⟨"SecretBuyersModel", "emit", "(II)V"⟩ ⟨"SecretBuyersModel", "emit", "(II)V"⟩) ∈ lw_all := lw_g (lw_at lw_ms 58 rfl) rfl
theorem qs59 : (Cond.selects "SecretBuyersModel" ⟨"SecretBuyersModel", "takeNumber", "(I)I"⟩ ⟨"SecretBuyersModel", "takeNumber", "(I)I"⟩) ∈ lw_all := lw_g (lw_at lw_ms 59 rfl) rfl
theorem qs60 : (Cond.selects "SecretBuyersModel" ⟨"SecretBuyersModel", "hasSign", "(I)Z"⟩ ⟨"SecretBuyersModel", "hasSign", "(I)Z"⟩) ∈ lw_all := lw_g (lw_at lw_ms 60 rfl) rfl
theorem qs61 : (Cond.selects "SecretBuyersModel" ⟨"SecretBuyersModel", "takeWord", "(I)V"⟩ ⟨"SecretBuyersModel", "takeWord", "(I)V"⟩) ∈ lw_all := lw_g (lw_at lw_ms 61 rfl) rfl
theorem qs62 : (Cond.selects "SecretBuyersModel" ⟨"SecretBuyersModel", "keeps", "(II)V"⟩ ⟨"SecretBuyersModel", "keeps", "(II)V"⟩) ∈ lw_all := lw_g (lw_at lw_ms 62 rfl) rfl
theorem qs63 : (Cond.selects "SecretBuyersModel" ⟨"SecretBuyersModel", "isShop", "(I)Z"⟩ ⟨"SecretBuyersModel", "isShop", "(I)Z"⟩) ∈ lw_all := lw_g (lw_at lw_ms 63 rfl) rfl
theorem qs64 : (Cond.selects "SecretBuyersModel" ⟨"SecretBuyersModel", "isBuyer", "(I)Z"⟩ ⟨"SecretBuyersModel", "isBuyer", "(I)Z"⟩) ∈ lw_all := lw_g (lw_at lw_ms 64 rfl) rfl
theorem qs65 : (Cond.selects "SecretBuyersModel" ⟨"SecretBuyersModel", "visitsOf", "(II)I"⟩ ⟨"SecretBuyersModel", "visitsOf", "(II)I"⟩) ∈ lw_all := lw_g (lw_at lw_ms 65 rfl) rfl
theorem qs66 : (Cond.selects "SecretBuyersModel" ⟨"SecretBuyersModel", "isSeen", "(I)Z"⟩ ⟨"SecretBuyersModel", "isSeen", "(I)Z"⟩) ∈ lw_all := lw_g (lw_at lw_ms 66 rfl) rfl
theorem qs67 : (Cond.selects "SecretBuyersModel" ⟨"SecretBuyersModel", "viewDay", "()I"⟩ ⟨"SecretBuyersModel", "viewDay", "()I"⟩) ∈ lw_all := lw_g (lw_at lw_ms 67 rfl) rfl
theorem qs68 : (Cond.selects "SecretBuyersModel" ⟨"SecretBuyersModel", "findAll", "()V"⟩ ⟨"SecretBuyersModel", "findAll", "()V"⟩) ∈ lw_all := lw_g (lw_at lw_ms 68 rfl) rfl
theorem qs69 : (Cond.selects "SecretBuyersModel" ⟨"SecretBuyersModel", "isAhead", "(II)Z"⟩ ⟨"SecretBuyersModel", "isAhead", "(II)Z"⟩) ∈ lw_all := lw_g (lw_at lw_ms 69 rfl) rfl
theorem qs70 : (Cond.selects "SecretBuyersModel" ⟨"SecretBuyersModel", "latest", "(II)I"⟩ ⟨"SecretBuyersModel", "latest", "(II)I"⟩) ∈ lw_all := lw_g (lw_at lw_ms 70 rfl) rfl
theorem qs71 : (Cond.selects "SecretBuyersModel" ⟨"SecretBuyersModel", "formNow", "(I)I"⟩ ⟨"SecretBuyersModel", "formNow", "(I)I"⟩) ∈ lw_all := lw_g (lw_at lw_ms 71 rfl) rfl
theorem qs72 : (Cond.selects "SecretBuyersModel" ⟨"SecretBuyersModel", "tells", "(III)V"⟩ ⟨"SecretBuyersModel", "tells", "(III)V"⟩) ∈ lw_all := lw_g (lw_at lw_ms 72 rfl) rfl
theorem qs73 : (Cond.selects "SecretBuyersModel" ⟨"SecretBuyersModel", "briefOf", "(I)I"⟩ ⟨"SecretBuyersModel", "briefOf", "(I)I"⟩) ∈ lw_all := lw_g (lw_at lw_ms 73 rfl) rfl
theorem qs74 : (Cond.selects "SecretBuyersModel" ⟨"SecretBuyersModel", "judges", "(I)V"⟩ ⟨"SecretBuyersModel", "judges", "(I)V"⟩) ∈ lw_all := lw_g (lw_at lw_ms 74 rfl) rfl
theorem qs75 : (Cond.selects "SecretBuyersModel" ⟨"SecretBuyersModel", "worth", "(I)I"⟩ ⟨"SecretBuyersModel", "worth", "(I)I"⟩) ∈ lw_all := lw_g (lw_at lw_ms 75 rfl) rfl
theorem qs76 : (Cond.selects "SecretBuyersModel" ⟨"SecretBuyersModel", "isAlone", "(I)Z"⟩ ⟨"SecretBuyersModel", "isAlone", "(I)Z"⟩) ∈ lw_all := lw_g (lw_at lw_ms 76 rfl) rfl
theorem qs77 : (Cond.selects "SecretBuyersModel" ⟨"SecretBuyersModel", "findFewest", "(II)V"⟩ ⟨"SecretBuyersModel", "findFewest", "(II)V"⟩) ∈ lw_all := lw_g (lw_at lw_ms 77 rfl) rfl
theorem qs78 : (Cond.selects "SecretBuyersModel" ⟨"SecretBuyersModel", "areBoth", "(II)Z"⟩ ⟨"SecretBuyersModel", "areBoth", "(II)Z"⟩) ∈ lw_all := lw_g (lw_at lw_ms 78 rfl) rfl
theorem qs79 : (Cond.selects "SecretBuyersModel" ⟨"SecretBuyersModel", "doesDo", "(I)Z"⟩ ⟨"SecretBuyersModel", "doesDo", "(I)Z"⟩) ∈ lw_all := lw_g (lw_at lw_ms 79 rfl) rfl
theorem qs80 : (Cond.selects "SecretBuyersModel" ⟨"SecretBuyersModel", "counts", "(I)Z"⟩ ⟨"SecretBuyersModel", "counts", "(I)Z"⟩) ∈ lw_all := lw_g (lw_at lw_ms 80 rfl) rfl
theorem qs81 : (Cond.selects "SecretBuyersModel" ⟨"SecretBuyersModel", "findLeans", "()V"⟩ ⟨"SecretBuyersModel", "findLeans", "()V"⟩) ∈ lw_all := lw_g (lw_at lw_ms 81 rfl) rfl
theorem qs82 : (Cond.selects "SecretBuyersModel" ⟨"SecretBuyersModel", "isMeeting", "(II)Z"⟩ ⟨"SecretBuyersModel", "isMeeting", "(II)Z"⟩) ∈ lw_all := lw_g (lw_at lw_ms 82 rfl) rfl
theorem qs83 : (Cond.selects "SecretBuyersModel" ⟨"SecretBuyersModel", "fairOf", "(I)I"⟩ ⟨"SecretBuyersModel", "fairOf", "(I)I"⟩) ∈ lw_all := lw_g (lw_at lw_ms 83 rfl) rfl
theorem qs84 : (Cond.selects "SecretBuyersModel" ⟨"SecretBuyersModel", "hasMean", "(III)Z"⟩ ⟨"SecretBuyersModel", "hasMean", "(III)Z"⟩) ∈ lw_all := lw_g (lw_at lw_ms 84 rfl) rfl
theorem qs85 : (Cond.selects "SecretBuyersModel" ⟨"SecretBuyersModel", "findMeans", "(II)V"⟩ ⟨"SecretBuyersModel", "findMeans", "(II)V"⟩) ∈ lw_all := lw_g (lw_at lw_ms 85 rfl) rfl
theorem qs86 : (Cond.selects "SecretBuyersModel" ⟨"SecretBuyersModel", "doubtOf", "(I)I"⟩ ⟨"SecretBuyersModel", "doubtOf", "(I)I"⟩) ∈ lw_all := lw_g (lw_at lw_ms 86 rfl) rfl
theorem qs87 : (Cond.selects "SecretBuyersModel" ⟨"SecretBuyersModel", "areTwo", "(IIII)Z"⟩ ⟨"SecretBuyersModel", "areTwo", "(IIII)Z"⟩) ∈ lw_all := lw_g (lw_at lw_ms 87 rfl) rfl
theorem qs88 : (Cond.selects "SecretBuyersModel" ⟨"SecretBuyersModel", "isLess", "(II)Z"⟩ ⟨"SecretBuyersModel", "isLess", "(II)Z"⟩) ∈ lw_all := lw_g (lw_at lw_ms 88 rfl) rfl
theorem qs89 : (Cond.selects "SecretBuyersModel" ⟨"SecretBuyersModel", "mayGo", "(III)Z"⟩ ⟨"SecretBuyersModel", "mayGo", "(III)Z"⟩) ∈ lw_all := lw_g (lw_at lw_ms 89 rfl) rfl
theorem qs90 : (Cond.selects "SecretBuyersModel" ⟨"SecretBuyersModel", "gives", "(II)I"⟩ ⟨"SecretBuyersModel", "gives", "(II)I"⟩) ∈ lw_all := lw_g (lw_at lw_ms 90 rfl) rfl
theorem qs91 : (Cond.selects "SecretBuyersModel" ⟨"SecretBuyersModel", "wayOf", "(II)I"⟩ ⟨"SecretBuyersModel", "wayOf", "(II)I"⟩) ∈ lw_all := lw_g (lw_at lw_ms 91 rfl) rfl
theorem qs92 : (Cond.selects "SecretBuyersModel" ⟨"SecretBuyersModel", "sumBy", "(III)I"⟩ ⟨"SecretBuyersModel", "sumBy", "(III)I"⟩) ∈ lw_all := lw_g (lw_at lw_ms 92 rfl) rfl
-- ===== end of PART A; then your names; then what follows =====
