/-! PRINTED by gen/print_tabs.py: classes, methods and links of the constant pools, as tables of our own; each entry with the words of lw_all that it stands on -/
def zcnL : List String := ["SecretBuyersLaw", "SecretBuyers", "SecretBuyers$Reader", "SecretBuyers$Ask", "SecretBuyersModel", "SecretBuyers$Shop", "SecretBuyers$Place", "SecretBuyers$Visit", "SecretBuyers$Appeal", "SecretBuyers$Brief", "SecretBuyers$Wrong", "SecretBuyers$Exp", "SecretBuyers$About", "SecretBuyers$Named", "SecretBuyers$Constant", "SecretBuyers$Not", "SecretBuyers$Row", "SecretBuyers$Line", "SecretBuyers$Must", "SecretBuyers$Add", "SecretBuyers$Bonus", "java/util/AbstractCollection", "java/util/AbstractList", "java/util/ArrayList", "jdk/internal/util/ArraysSupport", "java/lang/Math", "java/util/Arrays", "java/util/Objects", "jdk/internal/util/Preconditions", "java/lang/String", "java/lang/StringLatin1", "java/lang/StringUTF16", "java/lang/Character", "java/lang/Throwable", "java/lang/Exception", "java/lang/RuntimeException", "java/lang/AbstractStringBuilder", "java/lang/StringBuilder", "java/lang/Integer", "java/util/NoSuchElementException", "java/lang/Object"]
def zcn (o : Nat) : String := zcnL.getD o ""
/-- object classes; the last: String again, for the String constants (never written) -/
def zcl : List vw_C := [(RX1, TX1, 29), (RX2, TX2, 11), (RX3, TX3, 2), (RX4, TX4, 81), (RX5, TX5, 6), (RX6, TX6, 2), (RX7, TX7, 16), (RX8, TX8, 3), (RX9, TX9, 6), (RX10, TX10, 7), (RX12, TX12, 1), (RX13, TX13, 1), (RX14, TX14, 1), (RX15, TX15, 1), (RX16, TX16, 2), (RX18, TX18, 1), (RX19, TX19, 2), (RX20, TX20, 2), (RJ2, TJ2, 3), (RJ8, TJ8, 4), (RJ16, TJ16, 4), (RJ8, TJ8, 2)]
def zConstStr : Nat := 21
theorem zcl_in8 : ∀ w ∈ u_ws RJ8 TJ8 2, w ∈ lw_all := by
  intro w hw
  obtain ⟨k, hk, rfl⟩ := List.mem_map.mp hw
  exact in_J8 _ (u_in_lay (Nat.lt_trans (List.mem_range.mp hk) (by decide)))
theorem zcl_in : ∀ q ∈ zcl, ∀ w ∈ u_ws q.1 q.2.1 q.2.2, w ∈ lw_all := 
  List.forall_mem_cons.mpr ⟨in_X1, List.forall_mem_cons.mpr ⟨in_X2, List.forall_mem_cons.mpr ⟨in_X3, List.forall_mem_cons.mpr ⟨in_X4, List.forall_mem_cons.mpr ⟨in_X5, List.forall_mem_cons.mpr ⟨in_X6, List.forall_mem_cons.mpr ⟨in_X7, List.forall_mem_cons.mpr ⟨in_X8, List.forall_mem_cons.mpr ⟨in_X9, List.forall_mem_cons.mpr ⟨in_X10, List.forall_mem_cons.mpr ⟨in_X12, List.forall_mem_cons.mpr ⟨in_X13, List.forall_mem_cons.mpr ⟨in_X14, List.forall_mem_cons.mpr ⟨in_X15, List.forall_mem_cons.mpr ⟨in_X16, List.forall_mem_cons.mpr ⟨in_X18, List.forall_mem_cons.mpr ⟨in_X19, List.forall_mem_cons.mpr ⟨in_X20, List.forall_mem_cons.mpr ⟨in_J2, List.forall_mem_cons.mpr ⟨in_J8, List.forall_mem_cons.mpr ⟨in_J16, List.forall_mem_cons.mpr ⟨zcl_in8, fun _ h => nomatch h⟩⟩⟩⟩⟩⟩⟩⟩⟩⟩⟩⟩⟩⟩⟩⟩⟩⟩⟩⟩⟩⟩
theorem zcl_nm : ∀ q ∈ zcl, ∀ a, a < q.2.2 → ∀ b, b < q.2.2 → a ≠ b → (q.2.1 a).2.1 ≠ (q.2.1 b).2.1 := 
  List.forall_mem_cons.mpr ⟨nmX1, List.forall_mem_cons.mpr ⟨nmX2, List.forall_mem_cons.mpr ⟨nmX3, List.forall_mem_cons.mpr ⟨nmX4, List.forall_mem_cons.mpr ⟨nmX5, List.forall_mem_cons.mpr ⟨nmX6, List.forall_mem_cons.mpr ⟨nmX7, List.forall_mem_cons.mpr ⟨nmX8, List.forall_mem_cons.mpr ⟨nmX9, List.forall_mem_cons.mpr ⟨nmX10, List.forall_mem_cons.mpr ⟨nmX12, List.forall_mem_cons.mpr ⟨nmX13, List.forall_mem_cons.mpr ⟨nmX14, List.forall_mem_cons.mpr ⟨nmX15, List.forall_mem_cons.mpr ⟨nmX16, List.forall_mem_cons.mpr ⟨nmX18, List.forall_mem_cons.mpr ⟨nmX19, List.forall_mem_cons.mpr ⟨nmX20, List.forall_mem_cons.mpr ⟨nmJ2, List.forall_mem_cons.mpr ⟨nmJ8, List.forall_mem_cons.mpr ⟨nmJ16, List.forall_mem_cons.mpr ⟨fun a ha b hb => nmJ8 a (Nat.lt_trans ha (by decide)) b (Nat.lt_trans hb (by decide)), fun _ h => nomatch h⟩⟩⟩⟩⟩⟩⟩⟩⟩⟩⟩⟩⟩⟩⟩⟩⟩⟩⟩⟩⟩⟩
theorem zcl_ty : ∀ q ∈ zcl, ∃ ty : Nat → FieldType, ∀ k, k < q.2.2 → parseFieldDescriptor (q.2.1 k).2.2.1 = some (ty k) := 
  List.forall_mem_cons.mpr ⟨⟨tyX1, tyX1_ok⟩, List.forall_mem_cons.mpr ⟨⟨tyX2, tyX2_ok⟩, List.forall_mem_cons.mpr ⟨⟨tyX3, tyX3_ok⟩, List.forall_mem_cons.mpr ⟨⟨tyX4, tyX4_ok⟩, List.forall_mem_cons.mpr ⟨⟨tyX5, tyX5_ok⟩, List.forall_mem_cons.mpr ⟨⟨tyX6, tyX6_ok⟩, List.forall_mem_cons.mpr ⟨⟨tyX7, tyX7_ok⟩, List.forall_mem_cons.mpr ⟨⟨tyX8, tyX8_ok⟩, List.forall_mem_cons.mpr ⟨⟨tyX9, tyX9_ok⟩, List.forall_mem_cons.mpr ⟨⟨tyX10, tyX10_ok⟩, List.forall_mem_cons.mpr ⟨⟨tyX12, tyX12_ok⟩, List.forall_mem_cons.mpr ⟨⟨tyX13, tyX13_ok⟩, List.forall_mem_cons.mpr ⟨⟨tyX14, tyX14_ok⟩, List.forall_mem_cons.mpr ⟨⟨tyX15, tyX15_ok⟩, List.forall_mem_cons.mpr ⟨⟨tyX16, tyX16_ok⟩, List.forall_mem_cons.mpr ⟨⟨tyX18, tyX18_ok⟩, List.forall_mem_cons.mpr ⟨⟨tyX19, tyX19_ok⟩, List.forall_mem_cons.mpr ⟨⟨tyX20, tyX20_ok⟩, List.forall_mem_cons.mpr ⟨⟨tyJ2, tyJ2_ok⟩, List.forall_mem_cons.mpr ⟨⟨tyJ8, tyJ8_ok⟩, List.forall_mem_cons.mpr ⟨⟨tyJ16, tyJ16_ok⟩, List.forall_mem_cons.mpr ⟨⟨tyJ8, fun k hk => tyJ8_ok k (Nat.lt_trans hk (by decide))⟩, fun _ h => nomatch h⟩⟩⟩⟩⟩⟩⟩⟩⟩⟩⟩⟩⟩⟩⟩⟩⟩⟩⟩⟩⟩⟩
def zkd (ty : FieldType) : Nat := match ty with
  | .int => 0 | .boolean => 1 | .byte => 2 | .char => 3 | .short => 4 | .long => 5 | .object _ => 6 | .array _ => 6 | _ => 9
/-- methods: name, code, locals, answer, level, class, handlers, <init> -/
abbrev zM : Type := MethodName × ByteArray × Nat × Option FieldType × Nat × Nat × List (Nat × Nat × Nat × Nat) × Bool
def zMok (e : zM) : Prop := (if e.2.2.2.2.2.2.1 = [] then Cond.code e.1 e.2.1 e.2.2.1 e.2.2.2.1 ∈ lw_all else Cond.codeWith e.1 e.2.1 e.2.2.1 e.2.2.2.1 e.2.2.2.2.2.2.1 ∈ lw_all) ∧ (Cond.static e.1 ∈ lw_all ∨ Cond.instanceMethod e.1 ∈ lw_all) ∧ Cond.initialized e.1.cls ∈ lw_all ∧ zcn e.2.2.2.2.2.1 = e.1.cls ∧ (plainFor e.1 = true ∧ e.1.cls ≠ "java/lang/invoke/MethodHandle" ∧ e.1.cls ≠ "java/lang/invoke/VarHandle") ∧ (e.2.2.2.2.2.2.2 = true ↔ e.1.name = "<init>")
def zms_0 : List zM := [(yX0_look, cX0_look, 5, (some .int), 14, 0, [(0, 10, 13, 13)], false),
  (yX0_fair, cX0_fair, 4, (some .int), 14, 0, [(0, 9, 12, 13)], false),
  (yX0_lean, cX0_lean, 4, (some .int), 13, 0, [(0, 9, 12, 13)], false),
  (yX0_mean, cX0_mean, 6, (some .int), 13, 0, [(0, 12, 15, 13)], false),
  (yX1_init, cX1_init, 1, none, 4, 1, [], true),
  (yX1_days, cX1_days, 2, (some .int), 2, 1, [], false),
  (yX1_in, cX1_in, 3, (some .boolean), 1, 1, [], false),
  (yX1_changed, cX1_changed, 1, (some .boolean), 1, 1, [], false),
  (yX1_view, cX1_view, 2, (some .boolean), 2, 1, [], false),
  (yX1_shop, cX1_shop, 7, (some .int), 8, 1, [], false),
  (yX1_buyer, cX1_buyer, 3, (some .int), 8, 1, [], false),
  (yX1_terms, cX1_terms, 4, (some .boolean), 2, 1, [], false),
  (yX1_rest, cX1_rest, 3, (some .boolean), 2, 1, [], false),
  (yX1_visit, cX1_visit, 10, (some .int), 8, 1, [], false),
  (yX1_isShop, cX1_isShop, 2, (some .boolean), 2, 1, [], false),
  (yX1_isBuyer, cX1_isBuyer, 2, (some .boolean), 2, 1, [], false),
  (yX1_appeal, cX1_appeal, 4, (some .boolean), 8, 1, [], false),
  (yX1_isVisit, cX1_isVisit, 2, (some .boolean), 2, 1, [], false),
  (yX1_feed, cX1_feed, 9, (some .int), 1, 1, [], false),
  (yX1_brief, cX1_brief, 5, (some .int), 17, 1, [(58, 73, 76, 189)], false),
  (yX1_isDay, cX1_isDay, 1, (some .boolean), 2, 1, [], false),
  (yX1_fewest, cX1_fewest, 3, (some .int), 12, 1, [], false),
  (yX1_works, cX1_works, 3, none, 11, 1, [], false),
  (yX1_sees, cX1_sees, 4, none, 7, 1, [], false),
  (yX1_day, cX1_day, 1, (some .int), 1, 1, [], false),
  (yX1_scores, cX1_scores, 3, none, 10, 1, [], false),
  (yX1_isFirstOf, cX1_isFirstOf, 3, (some .boolean), 4, 1, [], false),
  (yX1_seeks, cX1_seeks, 10, (some .int), 4, 1, [], false),
  (yX1_parts, cX1_parts, 3, (some .boolean), 1, 1, [], false),
  (yX1_leans, cX1_leans, 5, none, 4, 1, [], false),
  (yX1_set, cX1_set, 6, (some .int), 12, 1, [], false),
  (yX1_meetings, cX1_meetings, 6, (some .int), 12, 1, [], false),
  (yX1_doubt, cX1_doubt, 4, (some .int), 12, 1, [], false),
  (yX1_areDays, cX1_areDays, 2, (some .boolean), 3, 1, [], false),
  (yX1_meanOf, cX1_meanOf, 7, (some .int), 4, 1, [], false),
  (yX1_fair, cX1_fair, 2, (some .int), 1, 1, [], false),
  (yX1_apart, cX1_apart, 8, (some .int), 12, 1, [], false),
  (yX1_order, cX1_order, 10, (some .int), 14, 1, [], false),
  (yX1_row, cX1_row, 7, (some .int), 13, 1, [], false),
  (yX1_enough, cX1_enough, 7, (some .int), 13, 1, [], false)]
theorem zms_0_ok : ∀ e ∈ zms_0, zMok e := List.forall_mem_cons.mpr ⟨⟨q1459, Or.inl q1458, q93, rfl, ⟨plainFor_of_name rfl, by decide, by decide⟩, by decide⟩, List.forall_mem_cons.mpr ⟨⟨q1496, Or.inl q1495, q93, rfl, ⟨plainFor_of_name rfl, by decide, by decide⟩, by decide⟩, List.forall_mem_cons.mpr ⟨⟨q1503, Or.inl q1502, q93, rfl, ⟨plainFor_of_name rfl, by decide, by decide⟩, by decide⟩, List.forall_mem_cons.mpr ⟨⟨q1510, Or.inl q1509, q93, rfl, ⟨plainFor_of_name rfl, by decide, by decide⟩, by decide⟩, List.forall_mem_cons.mpr ⟨⟨q138, Or.inr q137, q94, rfl, ⟨plainFor_of_name rfl, by decide, by decide⟩, by decide⟩, List.forall_mem_cons.mpr ⟨⟨q325, Or.inr q323, q94, rfl, ⟨plainFor_of_name rfl, by decide, by decide⟩, by decide⟩, List.forall_mem_cons.mpr ⟨⟨q328, Or.inl q327, q94, rfl, ⟨plainFor_of_name rfl, by decide, by decide⟩, by decide⟩, List.forall_mem_cons.mpr ⟨⟨q332, Or.inr q331, q94, rfl, ⟨plainFor_of_name rfl, by decide, by decide⟩, by decide⟩, List.forall_mem_cons.mpr ⟨⟨q336, Or.inr q334, q94, rfl, ⟨plainFor_of_name rfl, by decide, by decide⟩, by decide⟩, List.forall_mem_cons.mpr ⟨⟨q340, Or.inr q338, q94, rfl, ⟨plainFor_of_name rfl, by decide, by decide⟩, by decide⟩, List.forall_mem_cons.mpr ⟨⟨q461, Or.inr q459, q94, rfl, ⟨plainFor_of_name rfl, by decide, by decide⟩, by decide⟩, List.forall_mem_cons.mpr ⟨⟨q465, Or.inr q463, q94, rfl, ⟨plainFor_of_name rfl, by decide, by decide⟩, by decide⟩, List.forall_mem_cons.mpr ⟨⟨q469, Or.inr q467, q94, rfl, ⟨plainFor_of_name rfl, by decide, by decide⟩, by decide⟩, List.forall_mem_cons.mpr ⟨⟨q473, Or.inr q471, q94, rfl, ⟨plainFor_of_name rfl, by decide, by decide⟩, by decide⟩, List.forall_mem_cons.mpr ⟨⟨q477, Or.inr q476, q94, rfl, ⟨plainFor_of_name rfl, by decide, by decide⟩, by decide⟩, List.forall_mem_cons.mpr ⟨⟨q481, Or.inr q480, q94, rfl, ⟨plainFor_of_name rfl, by decide, by decide⟩, by decide⟩, List.forall_mem_cons.mpr ⟨⟨q567, Or.inr q565, q94, rfl, ⟨plainFor_of_name rfl, by decide, by decide⟩, by decide⟩, List.forall_mem_cons.mpr ⟨⟨q571, Or.inr q570, q94, rfl, ⟨plainFor_of_name rfl, by decide, by decide⟩, by decide⟩, List.forall_mem_cons.mpr ⟨⟨q594, Or.inr q592, q94, rfl, ⟨plainFor_of_name rfl, by decide, by decide⟩, by decide⟩, List.forall_mem_cons.mpr ⟨⟨q598, Or.inr q596, q94, rfl, ⟨plainFor_of_name rfl, by decide, by decide⟩, by decide⟩, List.forall_mem_cons.mpr ⟨⟨q602, Or.inl q601, q94, rfl, ⟨plainFor_of_name rfl, by decide, by decide⟩, by decide⟩, List.forall_mem_cons.mpr ⟨⟨q1190, Or.inr q1188, q94, rfl, ⟨plainFor_of_name rfl, by decide, by decide⟩, by decide⟩, List.forall_mem_cons.mpr ⟨⟨q1194, Or.inr q1193, q94, rfl, ⟨plainFor_of_name rfl, by decide, by decide⟩, by decide⟩, List.forall_mem_cons.mpr ⟨⟨q1202, Or.inr q1201, q94, rfl, ⟨plainFor_of_name rfl, by decide, by decide⟩, by decide⟩, List.forall_mem_cons.mpr ⟨⟨q1206, Or.inr q1205, q94, rfl, ⟨plainFor_of_name rfl, by decide, by decide⟩, by decide⟩, List.forall_mem_cons.mpr ⟨⟨q1232, Or.inr q1231, q94, rfl, ⟨plainFor_of_name rfl, by decide, by decide⟩, by decide⟩, List.forall_mem_cons.mpr ⟨⟨q1336, Or.inr q1335, q94, rfl, ⟨plainFor_of_name rfl, by decide, by decide⟩, by decide⟩, List.forall_mem_cons.mpr ⟨⟨q1340, Or.inr q1339, q94, rfl, ⟨plainFor_of_name rfl, by decide, by decide⟩, by decide⟩, List.forall_mem_cons.mpr ⟨⟨q1357, Or.inr q1356, q94, rfl, ⟨plainFor_of_name rfl, by decide, by decide⟩, by decide⟩, List.forall_mem_cons.mpr ⟨⟨q1361, Or.inr q1360, q94, rfl, ⟨plainFor_of_name rfl, by decide, by decide⟩, by decide⟩, List.forall_mem_cons.mpr ⟨⟨q1373, Or.inr q1371, q94, rfl, ⟨plainFor_of_name rfl, by decide, by decide⟩, by decide⟩, List.forall_mem_cons.mpr ⟨⟨q1377, Or.inr q1375, q94, rfl, ⟨plainFor_of_name rfl, by decide, by decide⟩, by decide⟩, List.forall_mem_cons.mpr ⟨⟨q1381, Or.inr q1379, q94, rfl, ⟨plainFor_of_name rfl, by decide, by decide⟩, by decide⟩, List.forall_mem_cons.mpr ⟨⟨q1384, Or.inl q1383, q94, rfl, ⟨plainFor_of_name rfl, by decide, by decide⟩, by decide⟩, List.forall_mem_cons.mpr ⟨⟨q1388, Or.inr q1387, q94, rfl, ⟨plainFor_of_name rfl, by decide, by decide⟩, by decide⟩, List.forall_mem_cons.mpr ⟨⟨q1393, Or.inr q1392, q94, rfl, ⟨plainFor_of_name rfl, by decide, by decide⟩, by decide⟩, List.forall_mem_cons.mpr ⟨⟨q1397, Or.inr q1395, q94, rfl, ⟨plainFor_of_name rfl, by decide, by decide⟩, by decide⟩, List.forall_mem_cons.mpr ⟨⟨q1402, Or.inr q1400, q94, rfl, ⟨plainFor_of_name rfl, by decide, by decide⟩, by decide⟩, List.forall_mem_cons.mpr ⟨⟨q1406, Or.inr q1405, q94, rfl, ⟨plainFor_of_name rfl, by decide, by decide⟩, by decide⟩, List.forall_mem_cons.mpr ⟨⟨q1412, Or.inr q1410, q94, rfl, ⟨plainFor_of_name rfl, by decide, by decide⟩, by decide⟩, fun _ h => nomatch h⟩⟩⟩⟩⟩⟩⟩⟩⟩⟩⟩⟩⟩⟩⟩⟩⟩⟩⟩⟩⟩⟩⟩⟩⟩⟩⟩⟩⟩⟩⟩⟩⟩⟩⟩⟩⟩⟩⟩⟩
def zms_1 : List zM := [(yX1_may, cX1_may, 4, (some .int), 12, 1, [], false),
  (yX1_mayGo, cX1_mayGo, 7, (some .boolean), 4, 1, [], false),
  (yX1_given, cX1_given, 10, (some .int), 12, 1, [], false),
  (yX1_sumBy, cX1_sumBy, 5, (some .int), 5, 1, [], false),
  (yX1_drawn, cX1_drawn, 9, (some .int), 12, 1, [], false),
  (yX1_latest, cX1_latest, 4, (some (.object "SecretBuyers$Visit")), 4, 1, [], false),
  (yX1_sway, cX1_sway, 8, (some .int), 12, 1, [], false),
  (yX1_sum, cX1_sum, 8, (some .int), 12, 1, [], false),
  (yX1_count, cX1_count, 4, (some .int), 12, 1, [], false),
  (yX1_look, cX1_look, 4, (some .int), 13, 1, [], false),
  (yX1_visitAt, cX1_visitAt, 2, (some (.object "SecretBuyers$Visit")), 12, 1, [], false),
  (yX1_need, cX1_need, 1, none, 5, 1, [], false),
  (yX1_fair_2, cX1_fair_2, 2, (some .int), 13, 1, [], false),
  (yX1_lean, cX1_lean, 2, (some .int), 12, 1, [], false),
  (yX1_mean, cX1_mean, 5, (some .int), 12, 1, [], false),
  (yX2_init, cX2_init, 1, none, 1, 2, [], true),
  (yX2_begin, cX2_begin, 6, none, 9, 2, [], false),
  (yX2_next, cX2_next, 1, none, 8, 2, [], false),
  (yX2_at, cX2_at, 2, (some .int), 1, 2, [], false),
  (yX2_isLetter, cX2_isLetter, 1, (some .boolean), 1, 2, [], false),
  (yX2_isDigit, cX2_isDigit, 1, (some .boolean), 1, 2, [], false),
  (yX2_whole, cX2_whole, 5, (some (.object "SecretBuyers$Brief")), 16, 2, [], false),
  (yX2_which, cX2_which, 7, (some .int), 7, 2, [], false),
  (yX2_wrong, cX2_wrong, 2, (some (.object "SecretBuyers$Wrong")), 5, 2, [], false),
  (yX2_let, cX2_let, 3, none, 15, 2, [], false),
  (yX2_name, cX2_name, 3, (some (.object "java/lang/String")), 9, 2, [], false),
  (yX2_need, cX2_need, 2, none, 9, 2, [], false),
  (yX2_isSign, cX2_isSign, 2, (some .boolean), 1, 2, [], false),
  (yX2_e, cX2_e, 4, (some (.object "SecretBuyers$Exp")), 14, 2, [], false),
  (yX2_test, cX2_test, 3, (some (.object "SecretBuyers$Exp")), 13, 2, [], false),
  (yX2_sum, cX2_sum, 4, (some (.object "SecretBuyers$Exp")), 12, 2, [], false),
  (yX2_term, cX2_term, 3, (some (.object "SecretBuyers$Exp")), 11, 2, [], false),
  (yX2_part, cX2_part, 9, (some (.object "SecretBuyers$Exp")), 10, 2, [], false),
  (yX2_number, cX2_number, 4, (some .int), 9, 2, [], false),
  (yX2_need_2, cX2_need_2, 2, none, 10, 2, [], false),
  (yX2_meets, cX2_meets, 2, (some .boolean), 9, 2, [], false),
  (yX3_init, cX3_init, 1, none, 1, 3, [], true),
  (yX3_be, cX3_be, 4, none, 2, 3, [], false),
  (yX4_thrown, cX4_thrown, 1, (some .int), 1, 4, [], false),
  (yX4_feed, cX4_feed, 7, (some .int), 2, 4, [], false)]
theorem zms_1_ok : ∀ e ∈ zms_1, zMok e := List.forall_mem_cons.mpr ⟨⟨q1416, Or.inr q1414, q94, rfl, ⟨plainFor_of_name rfl, by decide, by decide⟩, by decide⟩, List.forall_mem_cons.mpr ⟨⟨q1420, Or.inr q1419, q94, rfl, ⟨plainFor_of_name rfl, by decide, by decide⟩, by decide⟩, List.forall_mem_cons.mpr ⟨⟨q1425, Or.inr q1423, q94, rfl, ⟨plainFor_of_name rfl, by decide, by decide⟩, by decide⟩, List.forall_mem_cons.mpr ⟨⟨q1431, Or.inr q1430, q94, rfl, ⟨plainFor_of_name rfl, by decide, by decide⟩, by decide⟩, List.forall_mem_cons.mpr ⟨⟨q1436, Or.inr q1434, q94, rfl, ⟨plainFor_of_name rfl, by decide, by decide⟩, by decide⟩, List.forall_mem_cons.mpr ⟨⟨q1440, Or.inr q1439, q94, rfl, ⟨plainFor_of_name rfl, by decide, by decide⟩, by decide⟩, List.forall_mem_cons.mpr ⟨⟨q1448, Or.inr q1446, q94, rfl, ⟨plainFor_of_name rfl, by decide, by decide⟩, by decide⟩, List.forall_mem_cons.mpr ⟨⟨q1452, Or.inr q1450, q94, rfl, ⟨plainFor_of_name rfl, by decide, by decide⟩, by decide⟩, List.forall_mem_cons.mpr ⟨⟨q1456, Or.inr q1454, q94, rfl, ⟨plainFor_of_name rfl, by decide, by decide⟩, by decide⟩, List.forall_mem_cons.mpr ⟨⟨q1464, Or.inr q1462, q94, rfl, ⟨plainFor_of_name rfl, by decide, by decide⟩, by decide⟩, List.forall_mem_cons.mpr ⟨⟨q1468, Or.inr q1467, q94, rfl, ⟨plainFor_of_name rfl, by decide, by decide⟩, by decide⟩, List.forall_mem_cons.mpr ⟨⟨q1471, Or.inl q1470, q94, rfl, ⟨plainFor_of_name rfl, by decide, by decide⟩, by decide⟩, List.forall_mem_cons.mpr ⟨⟨q1500, Or.inr q1498, q94, rfl, ⟨plainFor_of_name rfl, by decide, by decide⟩, by decide⟩, List.forall_mem_cons.mpr ⟨⟨q1507, Or.inr q1505, q94, rfl, ⟨plainFor_of_name rfl, by decide, by decide⟩, by decide⟩, List.forall_mem_cons.mpr ⟨⟨q1514, Or.inr q1512, q94, rfl, ⟨plainFor_of_name rfl, by decide, by decide⟩, by decide⟩, List.forall_mem_cons.mpr ⟨⟨q174, Or.inr q173, q98, rfl, ⟨plainFor_of_name rfl, by decide, by decide⟩, by decide⟩, List.forall_mem_cons.mpr ⟨⟨q606, Or.inr q604, q98, rfl, ⟨plainFor_of_name rfl, by decide, by decide⟩, by decide⟩, List.forall_mem_cons.mpr ⟨⟨q643, Or.inr q642, q98, rfl, ⟨plainFor_of_name rfl, by decide, by decide⟩, by decide⟩, List.forall_mem_cons.mpr ⟨⟨q647, Or.inr q646, q98, rfl, ⟨plainFor_of_name rfl, by decide, by decide⟩, by decide⟩, List.forall_mem_cons.mpr ⟨⟨q650, Or.inl q649, q98, rfl, ⟨plainFor_of_name rfl, by decide, by decide⟩, by decide⟩, List.forall_mem_cons.mpr ⟨⟨q653, Or.inl q652, q98, rfl, ⟨plainFor_of_name rfl, by decide, by decide⟩, by decide⟩, List.forall_mem_cons.mpr ⟨⟨q740, Or.inr q738, q98, rfl, ⟨plainFor_of_name rfl, by decide, by decide⟩, by decide⟩, List.forall_mem_cons.mpr ⟨⟨q745, Or.inr q744, q98, rfl, ⟨plainFor_of_name rfl, by decide, by decide⟩, by decide⟩, List.forall_mem_cons.mpr ⟨⟨q769, Or.inr q768, q98, rfl, ⟨plainFor_of_name rfl, by decide, by decide⟩, by decide⟩, List.forall_mem_cons.mpr ⟨⟨q842, Or.inr q841, q98, rfl, ⟨plainFor_of_name rfl, by decide, by decide⟩, by decide⟩, List.forall_mem_cons.mpr ⟨⟨q846, Or.inr q845, q98, rfl, ⟨plainFor_of_name rfl, by decide, by decide⟩, by decide⟩, List.forall_mem_cons.mpr ⟨⟨q1043, Or.inr q1042, q98, rfl, ⟨plainFor_of_name rfl, by decide, by decide⟩, by decide⟩, List.forall_mem_cons.mpr ⟨⟨q1047, Or.inr q1046, q98, rfl, ⟨plainFor_of_name rfl, by decide, by decide⟩, by decide⟩, List.forall_mem_cons.mpr ⟨⟨q1051, Or.inr q1050, q98, rfl, ⟨plainFor_of_name rfl, by decide, by decide⟩, by decide⟩, List.forall_mem_cons.mpr ⟨⟨q1055, Or.inr q1054, q98, rfl, ⟨plainFor_of_name rfl, by decide, by decide⟩, by decide⟩, List.forall_mem_cons.mpr ⟨⟨q1059, Or.inr q1058, q98, rfl, ⟨plainFor_of_name rfl, by decide, by decide⟩, by decide⟩, List.forall_mem_cons.mpr ⟨⟨q1063, Or.inr q1062, q98, rfl, ⟨plainFor_of_name rfl, by decide, by decide⟩, by decide⟩, List.forall_mem_cons.mpr ⟨⟨q1067, Or.inr q1066, q98, rfl, ⟨plainFor_of_name rfl, by decide, by decide⟩, by decide⟩, List.forall_mem_cons.mpr ⟨⟨q1076, Or.inr q1075, q98, rfl, ⟨plainFor_of_name rfl, by decide, by decide⟩, by decide⟩, List.forall_mem_cons.mpr ⟨⟨q1160, Or.inr q1159, q98, rfl, ⟨plainFor_of_name rfl, by decide, by decide⟩, by decide⟩, List.forall_mem_cons.mpr ⟨⟨q1164, Or.inr q1163, q98, rfl, ⟨plainFor_of_name rfl, by decide, by decide⟩, by decide⟩, List.forall_mem_cons.mpr ⟨⟨q215, Or.inr q214, q99, rfl, ⟨plainFor_of_name rfl, by decide, by decide⟩, by decide⟩, List.forall_mem_cons.mpr ⟨⟨q1244, Or.inr q1242, q99, rfl, ⟨plainFor_of_name rfl, by decide, by decide⟩, by decide⟩, List.forall_mem_cons.mpr ⟨⟨q1518, Or.inr q1516, q100, rfl, ⟨plainFor_of_name rfl, by decide, by decide⟩, by decide⟩, List.forall_mem_cons.mpr ⟨⟨q1522, Or.inr q1520, q100, rfl, ⟨plainFor_of_name rfl, by decide, by decide⟩, by decide⟩, fun _ h => nomatch h⟩⟩⟩⟩⟩⟩⟩⟩⟩⟩⟩⟩⟩⟩⟩⟩⟩⟩⟩⟩⟩⟩⟩⟩⟩⟩⟩⟩⟩⟩⟩⟩⟩⟩⟩⟩⟩⟩⟩⟩
def zms_2 : List zM := [(yX4_lay, cX4_lay, 5, none, 1, 4, [], false),
  (yX4_init, cX4_init, 1, none, 1, 4, [], true),
  (yX4_brief, cX4_brief, 3, (some .int), 11, 4, [], false),
  (yX4_cutAll, cX4_cutAll, 7, none, 3, 4, [], false),
  (yX4_isLetter, cX4_isLetter, 1, (some .boolean), 1, 4, [], false),
  (yX4_rank, cX4_rank, 1, (some .int), 2, 4, [], false),
  (yX4_isDigit, cX4_isDigit, 1, (some .boolean), 1, 4, [], false),
  (yX4_isSignOf, cX4_isSignOf, 1, (some .boolean), 1, 4, [], false),
  (yX4_readLine, cX4_readLine, 2, none, 10, 4, [], false),
  (yX4_isWord, cX4_isWord, 2, (some .boolean), 1, 4, [], false),
  (yX4_wrong, cX4_wrong, 2, none, 1, 4, [], false),
  (yX4_readLet, cX4_readLet, 4, none, 9, 4, [], false),
  (yX4_isName, cX4_isName, 3, (some .boolean), 1, 4, [], false),
  (yX4_findName, cX4_findName, 3, (some .int), 1, 4, [], false),
  (yX4_takeSign, cX4_takeSign, 2, none, 2, 4, [], false),
  (yX4_isSign, cX4_isSign, 2, (some .boolean), 1, 4, [], false),
  (yX4_readTests, cX4_readTests, 2, (some .int), 8, 4, [], false),
  (yX4_all, cX4_all, 3, none, 7, 4, [], false),
  (yX4_test, cX4_test, 3, none, 6, 4, [], false),
  (yX4_sums, cX4_sums, 3, none, 5, 4, [], false),
  (yX4_products, cX4_products, 2, none, 4, 4, [], false),
  (yX4_takePart, cX4_takePart, 6, none, 3, 4, [], false),
  (yX4_hasWord, cX4_hasWord, 3, (some .boolean), 2, 4, [], false),
  (yX4_emit, cX4_emit, 3, none, 1, 4, [], false),
  (yX4_takeNumber, cX4_takeNumber, 2, (some .int), 2, 4, [], false),
  (yX4_hasSign, cX4_hasSign, 3, (some .boolean), 2, 4, [], false),
  (yX4_takeWord, cX4_takeWord, 2, none, 3, 4, [], false),
  (yX4_keeps, cX4_keeps, 5, none, 1, 4, [], false),
  (yX4_days, cX4_days, 2, (some .int), 2, 4, [], false),
  (yX4_within, cX4_within, 3, (some .boolean), 1, 4, [], false),
  (yX4_view, cX4_view, 2, (some .boolean), 2, 4, [], false),
  (yX4_shop, cX4_shop, 7, (some .int), 3, 4, [], false),
  (yX4_isPlace, cX4_isPlace, 2, (some .boolean), 2, 4, [], false),
  (yX4_buyer, cX4_buyer, 3, (some .int), 3, 4, [], false),
  (yX4_terms, cX4_terms, 4, (some .boolean), 2, 4, [], false),
  (yX4_rest, cX4_rest, 3, (some .boolean), 2, 4, [], false),
  (yX4_visit, cX4_visit, 9, (some .int), 2, 4, [], false),
  (yX4_isShop, cX4_isShop, 2, (some .boolean), 1, 4, [], false),
  (yX4_isBuyer, cX4_isBuyer, 2, (some .boolean), 1, 4, [], false),
  (yX4_visitsOf, cX4_visitsOf, 5, (some .int), 1, 4, [], false)]
theorem zms_2_ok : ∀ e ∈ zms_2, zMok e := List.forall_mem_cons.mpr ⟨⟨q1527, Or.inr q1525, q100, rfl, ⟨plainFor_of_name rfl, by decide, by decide⟩, by decide⟩, List.forall_mem_cons.mpr ⟨⟨q1531, Or.inr q1530, q100, rfl, ⟨plainFor_of_name rfl, by decide, by decide⟩, by decide⟩, List.forall_mem_cons.mpr ⟨⟨q1797, Or.inr q1795, q100, rfl, ⟨plainFor_of_name rfl, by decide, by decide⟩, by decide⟩, List.forall_mem_cons.mpr ⟨⟨q1801, Or.inr q1800, q100, rfl, ⟨plainFor_of_name rfl, by decide, by decide⟩, by decide⟩, List.forall_mem_cons.mpr ⟨⟨q1804, Or.inl q1803, q100, rfl, ⟨plainFor_of_name rfl, by decide, by decide⟩, by decide⟩, List.forall_mem_cons.mpr ⟨⟨q1808, Or.inl q1807, q100, rfl, ⟨plainFor_of_name rfl, by decide, by decide⟩, by decide⟩, List.forall_mem_cons.mpr ⟨⟨q1811, Or.inl q1810, q100, rfl, ⟨plainFor_of_name rfl, by decide, by decide⟩, by decide⟩, List.forall_mem_cons.mpr ⟨⟨q1816, Or.inl q1815, q100, rfl, ⟨plainFor_of_name rfl, by decide, by decide⟩, by decide⟩, List.forall_mem_cons.mpr ⟨⟨q1820, Or.inr q1819, q100, rfl, ⟨plainFor_of_name rfl, by decide, by decide⟩, by decide⟩, List.forall_mem_cons.mpr ⟨⟨q1824, Or.inr q1823, q100, rfl, ⟨plainFor_of_name rfl, by decide, by decide⟩, by decide⟩, List.forall_mem_cons.mpr ⟨⟨q1828, Or.inr q1827, q100, rfl, ⟨plainFor_of_name rfl, by decide, by decide⟩, by decide⟩, List.forall_mem_cons.mpr ⟨⟨q1832, Or.inr q1831, q100, rfl, ⟨plainFor_of_name rfl, by decide, by decide⟩, by decide⟩, List.forall_mem_cons.mpr ⟨⟨q1836, Or.inr q1835, q100, rfl, ⟨plainFor_of_name rfl, by decide, by decide⟩, by decide⟩, List.forall_mem_cons.mpr ⟨⟨q1840, Or.inr q1839, q100, rfl, ⟨plainFor_of_name rfl, by decide, by decide⟩, by decide⟩, List.forall_mem_cons.mpr ⟨⟨q1844, Or.inr q1843, q100, rfl, ⟨plainFor_of_name rfl, by decide, by decide⟩, by decide⟩, List.forall_mem_cons.mpr ⟨⟨q1848, Or.inr q1847, q100, rfl, ⟨plainFor_of_name rfl, by decide, by decide⟩, by decide⟩, List.forall_mem_cons.mpr ⟨⟨q1852, Or.inr q1851, q100, rfl, ⟨plainFor_of_name rfl, by decide, by decide⟩, by decide⟩, List.forall_mem_cons.mpr ⟨⟨q1856, Or.inr q1855, q100, rfl, ⟨plainFor_of_name rfl, by decide, by decide⟩, by decide⟩, List.forall_mem_cons.mpr ⟨⟨q1860, Or.inr q1859, q100, rfl, ⟨plainFor_of_name rfl, by decide, by decide⟩, by decide⟩, List.forall_mem_cons.mpr ⟨⟨q1864, Or.inr q1863, q100, rfl, ⟨plainFor_of_name rfl, by decide, by decide⟩, by decide⟩, List.forall_mem_cons.mpr ⟨⟨q1868, Or.inr q1867, q100, rfl, ⟨plainFor_of_name rfl, by decide, by decide⟩, by decide⟩, List.forall_mem_cons.mpr ⟨⟨q1872, Or.inr q1871, q100, rfl, ⟨plainFor_of_name rfl, by decide, by decide⟩, by decide⟩, List.forall_mem_cons.mpr ⟨⟨q1876, Or.inr q1875, q100, rfl, ⟨plainFor_of_name rfl, by decide, by decide⟩, by decide⟩, List.forall_mem_cons.mpr ⟨⟨q1880, Or.inr q1879, q100, rfl, ⟨plainFor_of_name rfl, by decide, by decide⟩, by decide⟩, List.forall_mem_cons.mpr ⟨⟨q1884, Or.inr q1883, q100, rfl, ⟨plainFor_of_name rfl, by decide, by decide⟩, by decide⟩, List.forall_mem_cons.mpr ⟨⟨q1888, Or.inr q1887, q100, rfl, ⟨plainFor_of_name rfl, by decide, by decide⟩, by decide⟩, List.forall_mem_cons.mpr ⟨⟨q1892, Or.inr q1891, q100, rfl, ⟨plainFor_of_name rfl, by decide, by decide⟩, by decide⟩, List.forall_mem_cons.mpr ⟨⟨q1896, Or.inr q1895, q100, rfl, ⟨plainFor_of_name rfl, by decide, by decide⟩, by decide⟩, List.forall_mem_cons.mpr ⟨⟨q1900, Or.inr q1898, q100, rfl, ⟨plainFor_of_name rfl, by decide, by decide⟩, by decide⟩, List.forall_mem_cons.mpr ⟨⟨q1903, Or.inl q1902, q100, rfl, ⟨plainFor_of_name rfl, by decide, by decide⟩, by decide⟩, List.forall_mem_cons.mpr ⟨⟨q1907, Or.inr q1905, q100, rfl, ⟨plainFor_of_name rfl, by decide, by decide⟩, by decide⟩, List.forall_mem_cons.mpr ⟨⟨q1911, Or.inr q1909, q100, rfl, ⟨plainFor_of_name rfl, by decide, by decide⟩, by decide⟩, List.forall_mem_cons.mpr ⟨⟨q1914, Or.inl q1913, q100, rfl, ⟨plainFor_of_name rfl, by decide, by decide⟩, by decide⟩, List.forall_mem_cons.mpr ⟨⟨q1918, Or.inr q1916, q100, rfl, ⟨plainFor_of_name rfl, by decide, by decide⟩, by decide⟩, List.forall_mem_cons.mpr ⟨⟨q1922, Or.inr q1920, q100, rfl, ⟨plainFor_of_name rfl, by decide, by decide⟩, by decide⟩, List.forall_mem_cons.mpr ⟨⟨q1926, Or.inr q1924, q100, rfl, ⟨plainFor_of_name rfl, by decide, by decide⟩, by decide⟩, List.forall_mem_cons.mpr ⟨⟨q1930, Or.inr q1928, q100, rfl, ⟨plainFor_of_name rfl, by decide, by decide⟩, by decide⟩, List.forall_mem_cons.mpr ⟨⟨q1934, Or.inr q1933, q100, rfl, ⟨plainFor_of_name rfl, by decide, by decide⟩, by decide⟩, List.forall_mem_cons.mpr ⟨⟨q1938, Or.inr q1937, q100, rfl, ⟨plainFor_of_name rfl, by decide, by decide⟩, by decide⟩, List.forall_mem_cons.mpr ⟨⟨q1942, Or.inr q1941, q100, rfl, ⟨plainFor_of_name rfl, by decide, by decide⟩, by decide⟩, fun _ h => nomatch h⟩⟩⟩⟩⟩⟩⟩⟩⟩⟩⟩⟩⟩⟩⟩⟩⟩⟩⟩⟩⟩⟩⟩⟩⟩⟩⟩⟩⟩⟩⟩⟩⟩⟩⟩⟩⟩⟩⟩⟩
def zms_3 : List zM := [(yX4_appeal, cX4_appeal, 3, (some .boolean), 2, 4, [], false),
  (yX4_look, cX4_look, 3, (some .int), 5, 4, [], false),
  (yX4_isSeen, cX4_isSeen, 2, (some .boolean), 2, 4, [], false),
  (yX4_viewDay, cX4_viewDay, 1, (some .int), 1, 4, [], false),
  (yX4_findAll, cX4_findAll, 4, none, 4, 4, [], false),
  (yX4_isAhead, cX4_isAhead, 5, (some .boolean), 1, 4, [], false),
  (yX4_latest, cX4_latest, 6, (some .int), 3, 4, [], false),
  (yX4_formNow, cX4_formNow, 4, (some .int), 2, 4, [], false),
  (yX4_tells, cX4_tells, 4, none, 2, 4, [], false),
  (yX4_bits, cX4_bits, 3, (some .int), 1, 4, [], false),
  (yX4_briefOf, cX4_briefOf, 5, (some .int), 2, 4, [], false),
  (yX4_judges, cX4_judges, 7, none, 3, 4, [], false),
  (yX4_worth, cX4_worth, 5, (some .int), 2, 4, [], false),
  (yX4_both, cX4_both, 3, (some .int), 1, 4, [], false),
  (yX4_isAlone, cX4_isAlone, 6, (some .boolean), 3, 4, [], false),
  (yX4_findFewest, cX4_findFewest, 7, none, 3, 4, [], false),
  (yX4_areBoth, cX4_areBoth, 6, (some .boolean), 2, 4, [], false),
  (yX4_wayBetween, cX4_wayBetween, 4, (some .int), 1, 4, [], false),
  (yX4_doesDo, cX4_doesDo, 4, (some .boolean), 1, 4, [], false),
  (yX4_isFirst, cX4_isFirst, 3, (some .boolean), 1, 4, [], false),
  (yX4_counts, cX4_counts, 2, (some .boolean), 3, 4, [], false),
  (yX4_fewest, cX4_fewest, 3, (some .int), 5, 4, [], false),
  (yX4_isDay, cX4_isDay, 1, (some .boolean), 2, 4, [], false),
  (yX4_set, cX4_set, 6, (some .int), 5, 4, [], false),
  (yX4_fair, cX4_fair, 2, (some .int), 6, 4, [], false),
  (yX4_findLeans, cX4_findLeans, 5, none, 5, 4, [], false),
  (yX4_isMeeting, cX4_isMeeting, 3, (some .boolean), 4, 4, [], false),
  (yX4_fairOf, cX4_fairOf, 2, (some .int), 1, 4, [], false),
  (yX4_lean, cX4_lean, 2, (some .int), 6, 4, [], false),
  (yX4_meetings, cX4_meetings, 6, (some .int), 5, 4, [], false),
  (yX4_mean, cX4_mean, 4, (some .int), 8, 4, [], false),
  (yX4_hasMean, cX4_hasMean, 4, (some .boolean), 7, 4, [], false),
  (yX4_areDays, cX4_areDays, 2, (some .boolean), 3, 4, [], false),
  (yX4_findMeans, cX4_findMeans, 6, none, 6, 4, [], false),
  (yX4_doubt, cX4_doubt, 4, (some .int), 8, 4, [], false),
  (yX4_doubtOf, cX4_doubtOf, 2, (some .int), 1, 4, [], false),
  (yX4_apart, cX4_apart, 5, (some .int), 9, 4, [], false),
  (yX4_areTwo, cX4_areTwo, 5, (some .boolean), 8, 4, [], false),
  (yX4_isLess, cX4_isLess, 3, (some .boolean), 2, 4, [], false),
  (yX4_order, cX4_order, 11, (some .int), 7, 4, [], false)]
theorem zms_3_ok : ∀ e ∈ zms_3, zMok e := List.forall_mem_cons.mpr ⟨⟨q1946, Or.inr q1944, q100, rfl, ⟨plainFor_of_name rfl, by decide, by decide⟩, by decide⟩, List.forall_mem_cons.mpr ⟨⟨q1950, Or.inr q1948, q100, rfl, ⟨plainFor_of_name rfl, by decide, by decide⟩, by decide⟩, List.forall_mem_cons.mpr ⟨⟨q1954, Or.inr q1953, q100, rfl, ⟨plainFor_of_name rfl, by decide, by decide⟩, by decide⟩, List.forall_mem_cons.mpr ⟨⟨q1958, Or.inr q1957, q100, rfl, ⟨plainFor_of_name rfl, by decide, by decide⟩, by decide⟩, List.forall_mem_cons.mpr ⟨⟨q1962, Or.inr q1961, q100, rfl, ⟨plainFor_of_name rfl, by decide, by decide⟩, by decide⟩, List.forall_mem_cons.mpr ⟨⟨q1966, Or.inr q1965, q100, rfl, ⟨plainFor_of_name rfl, by decide, by decide⟩, by decide⟩, List.forall_mem_cons.mpr ⟨⟨q1970, Or.inr q1969, q100, rfl, ⟨plainFor_of_name rfl, by decide, by decide⟩, by decide⟩, List.forall_mem_cons.mpr ⟨⟨q1974, Or.inr q1973, q100, rfl, ⟨plainFor_of_name rfl, by decide, by decide⟩, by decide⟩, List.forall_mem_cons.mpr ⟨⟨q1978, Or.inr q1977, q100, rfl, ⟨plainFor_of_name rfl, by decide, by decide⟩, by decide⟩, List.forall_mem_cons.mpr ⟨⟨q1981, Or.inl q1980, q100, rfl, ⟨plainFor_of_name rfl, by decide, by decide⟩, by decide⟩, List.forall_mem_cons.mpr ⟨⟨q1985, Or.inr q1984, q100, rfl, ⟨plainFor_of_name rfl, by decide, by decide⟩, by decide⟩, List.forall_mem_cons.mpr ⟨⟨q1989, Or.inr q1988, q100, rfl, ⟨plainFor_of_name rfl, by decide, by decide⟩, by decide⟩, List.forall_mem_cons.mpr ⟨⟨q1993, Or.inr q1992, q100, rfl, ⟨plainFor_of_name rfl, by decide, by decide⟩, by decide⟩, List.forall_mem_cons.mpr ⟨⟨q1996, Or.inl q1995, q100, rfl, ⟨plainFor_of_name rfl, by decide, by decide⟩, by decide⟩, List.forall_mem_cons.mpr ⟨⟨q2000, Or.inr q1999, q100, rfl, ⟨plainFor_of_name rfl, by decide, by decide⟩, by decide⟩, List.forall_mem_cons.mpr ⟨⟨q2004, Or.inr q2003, q100, rfl, ⟨plainFor_of_name rfl, by decide, by decide⟩, by decide⟩, List.forall_mem_cons.mpr ⟨⟨q2008, Or.inr q2007, q100, rfl, ⟨plainFor_of_name rfl, by decide, by decide⟩, by decide⟩, List.forall_mem_cons.mpr ⟨⟨q2011, Or.inl q2010, q100, rfl, ⟨plainFor_of_name rfl, by decide, by decide⟩, by decide⟩, List.forall_mem_cons.mpr ⟨⟨q2015, Or.inr q2014, q100, rfl, ⟨plainFor_of_name rfl, by decide, by decide⟩, by decide⟩, List.forall_mem_cons.mpr ⟨⟨q2018, Or.inl q2017, q100, rfl, ⟨plainFor_of_name rfl, by decide, by decide⟩, by decide⟩, List.forall_mem_cons.mpr ⟨⟨q2022, Or.inr q2021, q100, rfl, ⟨plainFor_of_name rfl, by decide, by decide⟩, by decide⟩, List.forall_mem_cons.mpr ⟨⟨q2026, Or.inr q2024, q100, rfl, ⟨plainFor_of_name rfl, by decide, by decide⟩, by decide⟩, List.forall_mem_cons.mpr ⟨⟨q2029, Or.inl q2028, q100, rfl, ⟨plainFor_of_name rfl, by decide, by decide⟩, by decide⟩, List.forall_mem_cons.mpr ⟨⟨q2033, Or.inr q2031, q100, rfl, ⟨plainFor_of_name rfl, by decide, by decide⟩, by decide⟩, List.forall_mem_cons.mpr ⟨⟨q2037, Or.inr q2035, q100, rfl, ⟨plainFor_of_name rfl, by decide, by decide⟩, by decide⟩, List.forall_mem_cons.mpr ⟨⟨q2041, Or.inr q2040, q100, rfl, ⟨plainFor_of_name rfl, by decide, by decide⟩, by decide⟩, List.forall_mem_cons.mpr ⟨⟨q2045, Or.inr q2044, q100, rfl, ⟨plainFor_of_name rfl, by decide, by decide⟩, by decide⟩, List.forall_mem_cons.mpr ⟨⟨q2049, Or.inr q2048, q100, rfl, ⟨plainFor_of_name rfl, by decide, by decide⟩, by decide⟩, List.forall_mem_cons.mpr ⟨⟨q2053, Or.inr q2051, q100, rfl, ⟨plainFor_of_name rfl, by decide, by decide⟩, by decide⟩, List.forall_mem_cons.mpr ⟨⟨q2057, Or.inr q2055, q100, rfl, ⟨plainFor_of_name rfl, by decide, by decide⟩, by decide⟩, List.forall_mem_cons.mpr ⟨⟨q2061, Or.inr q2059, q100, rfl, ⟨plainFor_of_name rfl, by decide, by decide⟩, by decide⟩, List.forall_mem_cons.mpr ⟨⟨q2065, Or.inr q2064, q100, rfl, ⟨plainFor_of_name rfl, by decide, by decide⟩, by decide⟩, List.forall_mem_cons.mpr ⟨⟨q2068, Or.inl q2067, q100, rfl, ⟨plainFor_of_name rfl, by decide, by decide⟩, by decide⟩, List.forall_mem_cons.mpr ⟨⟨q2072, Or.inr q2071, q100, rfl, ⟨plainFor_of_name rfl, by decide, by decide⟩, by decide⟩, List.forall_mem_cons.mpr ⟨⟨q2076, Or.inr q2074, q100, rfl, ⟨plainFor_of_name rfl, by decide, by decide⟩, by decide⟩, List.forall_mem_cons.mpr ⟨⟨q2080, Or.inr q2079, q100, rfl, ⟨plainFor_of_name rfl, by decide, by decide⟩, by decide⟩, List.forall_mem_cons.mpr ⟨⟨q2084, Or.inr q2082, q100, rfl, ⟨plainFor_of_name rfl, by decide, by decide⟩, by decide⟩, List.forall_mem_cons.mpr ⟨⟨q2088, Or.inr q2087, q100, rfl, ⟨plainFor_of_name rfl, by decide, by decide⟩, by decide⟩, List.forall_mem_cons.mpr ⟨⟨q2092, Or.inr q2091, q100, rfl, ⟨plainFor_of_name rfl, by decide, by decide⟩, by decide⟩, List.forall_mem_cons.mpr ⟨⟨q2096, Or.inr q2094, q100, rfl, ⟨plainFor_of_name rfl, by decide, by decide⟩, by decide⟩, fun _ h => nomatch h⟩⟩⟩⟩⟩⟩⟩⟩⟩⟩⟩⟩⟩⟩⟩⟩⟩⟩⟩⟩⟩⟩⟩⟩⟩⟩⟩⟩⟩⟩⟩⟩⟩⟩⟩⟩⟩⟩⟩⟩
def zms_4 : List zM := [(yX4_enough, cX4_enough, 7, (some .int), 9, 4, [], false),
  (yX4_may, cX4_may, 4, (some .int), 4, 4, [], false),
  (yX4_mayGo, cX4_mayGo, 8, (some .boolean), 3, 4, [], false),
  (yX4_given, cX4_given, 6, (some .int), 5, 4, [], false),
  (yX4_gives, cX4_gives, 9, (some .int), 4, 4, [], false),
  (yX4_wayOf, cX4_wayOf, 3, (some .int), 2, 4, [], false),
  (yX4_sumBy, cX4_sumBy, 5, (some .int), 1, 4, [], false),
  (yX4_drawn, cX4_drawn, 10, (some .int), 4, 4, [], false),
  (yX4_sway, cX4_sway, 8, (some .int), 5, 4, [], false),
  (yX4_sum, cX4_sum, 7, (some .int), 5, 4, [], false),
  (yX4_count, cX4_count, 4, (some .int), 5, 4, [], false),
  (yX5_init, cX5_init, 7, none, 1, 5, [], true),
  (yX6_init, cX6_init, 3, none, 1, 6, [], true),
  (yX6_way, cX6_way, 2, (some .int), 2, 6, [], false),
  (yX7_init, cX7_init, 10, none, 1, 7, [], true),
  (yX7_canBeAlone, cX7_canBeAlone, 1, (some .boolean), 2, 7, [], false),
  (yX7_behind, cX7_behind, 1, (some .int), 1, 7, [], false),
  (yX7_isAheadOf, cX7_isAheadOf, 2, (some .boolean), 1, 7, [], false),
  (yX7_quarrels, cX7_quarrels, 5, (some .boolean), 3, 7, [], false),
  (yX7_meets, cX7_meets, 2, (some .boolean), 2, 7, [], false),
  (yX7_counts, cX7_counts, 1, (some .boolean), 1, 7, [], false),
  (yX8_init, cX8_init, 4, none, 1, 8, [], true),
  (yX9_init, cX9_init, 4, none, 4, 9, [], true),
  (yX9_score, cX9_score, 6, (some .int), 9, 9, [], false),
  (yX9_asks, cX9_asks, 5, (some .boolean), 8, 9, [], false),
  (yX9_bonus, cX9_bonus, 5, (some .int), 9, 9, [], false),
  (yX10_init, cX10_init, 3, none, 4, 10, [], true),
  (yX11_init, cX11_init, 1, none, 1, 11, [], true),
  (yX12_init, cX12_init, 2, none, 2, 12, [], true),
  (yX12_value, cX12_value, 2, (some .int), 1, 12, [], false),
  (yX13_init, cX13_init, 2, none, 2, 13, [], true),
  (yX13_value, cX13_value, 2, (some .int), 1, 13, [], false),
  (yX14_init, cX14_init, 2, none, 2, 14, [], true),
  (yX14_value, cX14_value, 2, (some .int), 1, 14, [], false),
  (yX15_init, cX15_init, 2, none, 2, 15, [], true),
  (yX15_value, cX15_value, 2, (some .int), 1, 15, [], false),
  (yX16_init, cX16_init, 2, none, 8, 16, [], true),
  (yX16_and, cX16_and, 3, (some (.object "SecretBuyers$Row")), 9, 16, [], false),
  (yX16_value, cX16_value, 4, (some .int), 5, 16, [], false),
  (yX16_worked, cX16_worked, 3, (some .int), 1, 16, [], false)]
theorem zms_4_ok : ∀ e ∈ zms_4, zMok e := List.forall_mem_cons.mpr ⟨⟨q2100, Or.inr q2098, q100, rfl, ⟨plainFor_of_name rfl, by decide, by decide⟩, by decide⟩, List.forall_mem_cons.mpr ⟨⟨q2104, Or.inr q2102, q100, rfl, ⟨plainFor_of_name rfl, by decide, by decide⟩, by decide⟩, List.forall_mem_cons.mpr ⟨⟨q2108, Or.inr q2107, q100, rfl, ⟨plainFor_of_name rfl, by decide, by decide⟩, by decide⟩, List.forall_mem_cons.mpr ⟨⟨q2112, Or.inr q2110, q100, rfl, ⟨plainFor_of_name rfl, by decide, by decide⟩, by decide⟩, List.forall_mem_cons.mpr ⟨⟨q2116, Or.inr q2115, q100, rfl, ⟨plainFor_of_name rfl, by decide, by decide⟩, by decide⟩, List.forall_mem_cons.mpr ⟨⟨q2120, Or.inr q2119, q100, rfl, ⟨plainFor_of_name rfl, by decide, by decide⟩, by decide⟩, List.forall_mem_cons.mpr ⟨⟨q2125, Or.inr q2124, q100, rfl, ⟨plainFor_of_name rfl, by decide, by decide⟩, by decide⟩, List.forall_mem_cons.mpr ⟨⟨q2129, Or.inr q2127, q100, rfl, ⟨plainFor_of_name rfl, by decide, by decide⟩, by decide⟩, List.forall_mem_cons.mpr ⟨⟨q2137, Or.inr q2135, q100, rfl, ⟨plainFor_of_name rfl, by decide, by decide⟩, by decide⟩, List.forall_mem_cons.mpr ⟨⟨q2141, Or.inr q2139, q100, rfl, ⟨plainFor_of_name rfl, by decide, by decide⟩, by decide⟩, List.forall_mem_cons.mpr ⟨⟨q2145, Or.inr q2143, q100, rfl, ⟨plainFor_of_name rfl, by decide, by decide⟩, by decide⟩, List.forall_mem_cons.mpr ⟨⟨q361, Or.inr q360, q101, rfl, ⟨plainFor_of_name rfl, by decide, by decide⟩, by decide⟩, List.forall_mem_cons.mpr ⟨⟨q350, Or.inr q349, q102, rfl, ⟨plainFor_of_name rfl, by decide, by decide⟩, by decide⟩, List.forall_mem_cons.mpr ⟨⟨q1349, Or.inr q1347, q102, rfl, ⟨plainFor_of_name rfl, by decide, by decide⟩, by decide⟩, List.forall_mem_cons.mpr ⟨⟨q499, Or.inr q498, q109, rfl, ⟨plainFor_of_name rfl, by decide, by decide⟩, by decide⟩, List.forall_mem_cons.mpr ⟨⟨q1210, Or.inr q1208, q109, rfl, ⟨plainFor_of_name rfl, by decide, by decide⟩, by decide⟩, List.forall_mem_cons.mpr ⟨⟨q1214, Or.inr q1212, q109, rfl, ⟨plainFor_of_name rfl, by decide, by decide⟩, by decide⟩, List.forall_mem_cons.mpr ⟨⟨q1219, Or.inr q1217, q109, rfl, ⟨plainFor_of_name rfl, by decide, by decide⟩, by decide⟩, List.forall_mem_cons.mpr ⟨⟨q1344, Or.inr q1342, q109, rfl, ⟨plainFor_of_name rfl, by decide, by decide⟩, by decide⟩, List.forall_mem_cons.mpr ⟨⟨q1365, Or.inr q1363, q109, rfl, ⟨plainFor_of_name rfl, by decide, by decide⟩, by decide⟩, List.forall_mem_cons.mpr ⟨⟨q1369, Or.inr q1367, q109, rfl, ⟨plainFor_of_name rfl, by decide, by decide⟩, by decide⟩, List.forall_mem_cons.mpr ⟨⟨q576, Or.inr q575, q110, rfl, ⟨plainFor_of_name rfl, by decide, by decide⟩, by decide⟩, List.forall_mem_cons.mpr ⟨⟨q611, Or.inr q610, q111, rfl, ⟨plainFor_of_name rfl, by decide, by decide⟩, by decide⟩, List.forall_mem_cons.mpr ⟨⟨q1236, Or.inr q1234, q111, rfl, ⟨plainFor_of_name rfl, by decide, by decide⟩, by decide⟩, List.forall_mem_cons.mpr ⟨⟨q1240, Or.inr q1239, q111, rfl, ⟨plainFor_of_name rfl, by decide, by decide⟩, by decide⟩, List.forall_mem_cons.mpr ⟨⟨q1323, Or.inr q1321, q111, rfl, ⟨plainFor_of_name rfl, by decide, by decide⟩, by decide⟩, List.forall_mem_cons.mpr ⟨⟨q812, Or.inr q811, q119, rfl, ⟨plainFor_of_name rfl, by decide, by decide⟩, by decide⟩, List.forall_mem_cons.mpr ⟨⟨q1082, Or.inr q1081, q122, rfl, ⟨plainFor_of_name rfl, by decide, by decide⟩, by decide⟩, List.forall_mem_cons.mpr ⟨⟨q1079, Or.inr q1078, q123, rfl, ⟨plainFor_of_name rfl, by decide, by decide⟩, by decide⟩, List.forall_mem_cons.mpr ⟨⟨q1259, Or.inr q1258, q123, rfl, ⟨plainFor_of_name rfl, by decide, by decide⟩, by decide⟩, List.forall_mem_cons.mpr ⟨⟨q1092, Or.inr q1091, q124, rfl, ⟨plainFor_of_name rfl, by decide, by decide⟩, by decide⟩, List.forall_mem_cons.mpr ⟨⟨q1265, Or.inr q1264, q124, rfl, ⟨plainFor_of_name rfl, by decide, by decide⟩, by decide⟩, List.forall_mem_cons.mpr ⟨⟨q1102, Or.inr q1101, q125, rfl, ⟨plainFor_of_name rfl, by decide, by decide⟩, by decide⟩, List.forall_mem_cons.mpr ⟨⟨q1262, Or.inr q1261, q125, rfl, ⟨plainFor_of_name rfl, by decide, by decide⟩, by decide⟩, List.forall_mem_cons.mpr ⟨⟨q1112, Or.inr q1111, q126, rfl, ⟨plainFor_of_name rfl, by decide, by decide⟩, by decide⟩, List.forall_mem_cons.mpr ⟨⟨q1268, Or.inr q1267, q126, rfl, ⟨plainFor_of_name rfl, by decide, by decide⟩, by decide⟩, List.forall_mem_cons.mpr ⟨⟨q1122, Or.inr q1121, q127, rfl, ⟨plainFor_of_name rfl, by decide, by decide⟩, by decide⟩, List.forall_mem_cons.mpr ⟨⟨q1139, Or.inr q1137, q127, rfl, ⟨plainFor_of_name rfl, by decide, by decide⟩, by decide⟩, List.forall_mem_cons.mpr ⟨⟨q1271, Or.inr q1270, q127, rfl, ⟨plainFor_of_name rfl, by decide, by decide⟩, by decide⟩, List.forall_mem_cons.mpr ⟨⟨q1288, Or.inl q1287, q127, rfl, ⟨plainFor_of_name rfl, by decide, by decide⟩, by decide⟩, fun _ h => nomatch h⟩⟩⟩⟩⟩⟩⟩⟩⟩⟩⟩⟩⟩⟩⟩⟩⟩⟩⟩⟩⟩⟩⟩⟩⟩⟩⟩⟩⟩⟩⟩⟩⟩⟩⟩⟩⟩⟩⟩⟩
def zms_5 : List zM := [(yX17_init, cX17_init, 2, none, 1, 17, [], true),
  (yX17_holds, cX17_holds, 2, (some .boolean), 6, 17, [], false),
  (yX17_fails, cX17_fails, 2, (some .boolean), 1, 17, [], false),
  (yX17_adds, cX17_adds, 2, (some .int), 1, 17, [], false),
  (yX17_bonus, cX17_bonus, 1, (some .int), 1, 17, [], false),
  (yX18_init, cX18_init, 2, none, 2, 18, [], true),
  (yX18_fails, cX18_fails, 2, (some .boolean), 7, 18, [], false),
  (yX19_init, cX19_init, 3, none, 2, 19, [], true),
  (yX19_adds, cX19_adds, 2, (some .int), 6, 19, [], false),
  (yX20_init, cX20_init, 3, none, 2, 20, [], true),
  (yX20_bonus, cX20_bonus, 1, (some .int), 1, 20, [], false),
  (yJ0_init, cJ0_init, 1, none, 1, 21, [], true),
  (yJ1_init, cJ1_init, 1, none, 2, 22, [], true),
  (yJ2_init, cJ2_init, 2, none, 3, 23, [], true),
  (yJ2_size, cJ2_size, 1, (some .int), 1, 23, [], false),
  (yJ2_add, cJ2_add, 2, (some .boolean), 7, 23, [], false),
  (yJ2_add_2, cJ2_add_2, 4, none, 6, 23, [], false),
  (yJ2_grow, cJ2_grow, 1, (some (.array (.object "java/lang/Object"))), 5, 23, [], false),
  (yJ2_grow_2, cJ2_grow_2, 4, (some (.array (.object "java/lang/Object"))), 4, 23, [], false),
  (yJ2_get, cJ2_get, 2, (some (.object "java/lang/Object")), 3, 23, [], false),
  (yJ2_elementData, cJ2_elementData, 2, (some (.object "java/lang/Object")), 1, 23, [], false),
  (yJ2_contains, cJ2_contains, 2, (some .boolean), 5, 23, [], false),
  (yJ2_indexOf, cJ2_indexOf, 2, (some .int), 4, 23, [], false),
  (yJ2_indexOfRange, cJ2_indexOfRange, 6, (some .int), 3, 23, [], false),
  (yJ2_clear, cJ2_clear, 4, none, 1, 23, [], false),
  (yJ2_add_3, cJ2_add_3, 5, none, 6, 23, [], false),
  (yJ2_rangeCheckForAdd, cJ2_rangeCheckForAdd, 2, none, 1, 23, [], false),
  (yJ3_newLength, cJ3_newLength, 4, (some .int), 2, 24, [], false),
  (yJ3_hugeLength, cJ3_hugeLength, 3, (some .int), 1, 24, [], false),
  (yJ4_max, cJ4_max, 2, (some .int), 1, 25, [], false),
  (yJ4_min, cJ4_min, 2, (some .int), 1, 25, [], false),
  (yJ4_abs, cJ4_abs, 1, (some .int), 1, 25, [], false),
  (yJ5_copyOf, cJ5_copyOf, 2, (some (.array (.object "java/lang/Object"))), 3, 26, [], false),
  (yJ5_copyOf_2, cJ5_copyOf_2, 4, (some (.array (.object "java/lang/Object"))), 2, 26, [], false),
  (yJ5_copyOf_3, cJ5_copyOf_3, 3, (some (.array .byte)), 2, 26, [], false),
  (yJ5_copyOfRange, cJ5_copyOfRange, 3, (some (.array .byte)), 3, 26, [], false),
  (yJ5_copyOfRangeByte, cJ5_copyOfRangeByte, 5, (some (.array .byte)), 2, 26, [], false),
  (yJ5_checkLength, cJ5_checkLength, 2, none, 1, 26, [], false),
  (yJ6_checkIndex, cJ6_checkIndex, 2, (some .int), 2, 27, [], false),
  (yJ7_checkIndex, cJ7_checkIndex, 3, (some .int), 1, 28, [], false)]
theorem zms_5_ok : ∀ e ∈ zms_5, zMok e := List.forall_mem_cons.mpr ⟨⟨q1150, Or.inr q1149, q128, rfl, ⟨plainFor_of_name rfl, by decide, by decide⟩, by decide⟩, List.forall_mem_cons.mpr ⟨⟨q1304, Or.inr q1303, q128, rfl, ⟨plainFor_of_name rfl, by decide, by decide⟩, by decide⟩, List.forall_mem_cons.mpr ⟨⟨q1306, Or.inr q1292, q128, rfl, ⟨plainFor_of_name rfl, by decide, by decide⟩, by decide⟩, List.forall_mem_cons.mpr ⟨⟨q1317, Or.inr q1309, q128, rfl, ⟨plainFor_of_name rfl, by decide, by decide⟩, by decide⟩, List.forall_mem_cons.mpr ⟨⟨q1332, Or.inr q1325, q128, rfl, ⟨plainFor_of_name rfl, by decide, by decide⟩, by decide⟩, List.forall_mem_cons.mpr ⟨⟨q1147, Or.inr q1146, q129, rfl, ⟨plainFor_of_name rfl, by decide, by decide⟩, by decide⟩, List.forall_mem_cons.mpr ⟨⟨q1298, Or.inr q1297, q129, rfl, ⟨plainFor_of_name rfl, by decide, by decide⟩, by decide⟩, List.forall_mem_cons.mpr ⟨⟨q1169, Or.inr q1168, q130, rfl, ⟨plainFor_of_name rfl, by decide, by decide⟩, by decide⟩, List.forall_mem_cons.mpr ⟨⟨q1313, Or.inr q1312, q130, rfl, ⟨plainFor_of_name rfl, by decide, by decide⟩, by decide⟩, List.forall_mem_cons.mpr ⟨⟨q1180, Or.inr q1179, q131, rfl, ⟨plainFor_of_name rfl, by decide, by decide⟩, by decide⟩, List.forall_mem_cons.mpr ⟨⟨q1330, Or.inr q1329, q131, rfl, ⟨plainFor_of_name rfl, by decide, by decide⟩, by decide⟩, List.forall_mem_cons.mpr ⟨⟨q152, Or.inr q151, q95, rfl, ⟨plainFor_of_name rfl, by decide, by decide⟩, by decide⟩, List.forall_mem_cons.mpr ⟨⟨q149, Or.inr q148, q96, rfl, ⟨plainFor_of_name rfl, by decide, by decide⟩, by decide⟩, List.forall_mem_cons.mpr ⟨⟨q146, Or.inr q145, q97, rfl, ⟨plainFor_of_name rfl, by decide, by decide⟩, by decide⟩, List.forall_mem_cons.mpr ⟨⟨q344, Or.inr q342, q97, rfl, ⟨plainFor_of_name rfl, by decide, by decide⟩, by decide⟩, List.forall_mem_cons.mpr ⟨⟨q392, Or.inr q390, q97, rfl, ⟨plainFor_of_name rfl, by decide, by decide⟩, by decide⟩, List.forall_mem_cons.mpr ⟨⟨q396, Or.inr q395, q97, rfl, ⟨plainFor_of_name rfl, by decide, by decide⟩, by decide⟩, List.forall_mem_cons.mpr ⟨⟨q400, Or.inr q399, q97, rfl, ⟨plainFor_of_name rfl, by decide, by decide⟩, by decide⟩, List.forall_mem_cons.mpr ⟨⟨q404, Or.inr q403, q97, rfl, ⟨plainFor_of_name rfl, by decide, by decide⟩, by decide⟩, List.forall_mem_cons.mpr ⟨⟨q485, Or.inr q483, q97, rfl, ⟨plainFor_of_name rfl, by decide, by decide⟩, by decide⟩, List.forall_mem_cons.mpr ⟨⟨q495, Or.inr q493, q97, rfl, ⟨plainFor_of_name rfl, by decide, by decide⟩, by decide⟩, List.forall_mem_cons.mpr ⟨⟨q999, Or.inr q997, q97, rfl, ⟨plainFor_of_name rfl, by decide, by decide⟩, by decide⟩, List.forall_mem_cons.mpr ⟨⟨q1003, Or.inr q1001, q97, rfl, ⟨plainFor_of_name rfl, by decide, by decide⟩, by decide⟩, List.forall_mem_cons.mpr ⟨⟨q1007, Or.inr q1005, q97, rfl, ⟨plainFor_of_name rfl, by decide, by decide⟩, by decide⟩, List.forall_mem_cons.mpr ⟨⟨q1198, Or.inr q1196, q97, rfl, ⟨plainFor_of_name rfl, by decide, by decide⟩, by decide⟩, List.forall_mem_cons.mpr ⟨⟨q1223, Or.inr q1221, q97, rfl, ⟨plainFor_of_name rfl, by decide, by decide⟩, by decide⟩, List.forall_mem_cons.mpr ⟨⟨q1227, Or.inr q1226, q97, rfl, ⟨plainFor_of_name rfl, by decide, by decide⟩, by decide⟩, List.forall_mem_cons.mpr ⟨⟨q409, Or.inl q408, q103, rfl, ⟨plainFor_of_name rfl, by decide, by decide⟩, by decide⟩, List.forall_mem_cons.mpr ⟨⟨q416, Or.inl q415, q103, rfl, ⟨plainFor_of_name rfl, by decide, by decide⟩, by decide⟩, List.forall_mem_cons.mpr ⟨⟨q412, Or.inl q411, q104, rfl, ⟨by decide +kernel, by decide, by decide⟩, by decide⟩, List.forall_mem_cons.mpr ⟨⟨q453, Or.inl q452, q104, rfl, ⟨by decide +kernel, by decide, by decide⟩, by decide⟩, List.forall_mem_cons.mpr ⟨⟨q1352, Or.inl q1351, q104, rfl, ⟨by decide +kernel, by decide, by decide⟩, by decide⟩, List.forall_mem_cons.mpr ⟨⟨q419, Or.inl q418, q105, rfl, ⟨plainFor_of_name rfl, by decide, by decide⟩, by decide⟩, List.forall_mem_cons.mpr ⟨⟨q448, Or.inl q447, q105, rfl, ⟨plainFor_of_name rfl, by decide, by decide⟩, by decide⟩, List.forall_mem_cons.mpr ⟨⟨q898, Or.inl q897, q105, rfl, ⟨plainFor_of_name rfl, by decide, by decide⟩, by decide⟩, List.forall_mem_cons.mpr ⟨⟨q968, Or.inl q967, q105, rfl, ⟨plainFor_of_name rfl, by decide, by decide⟩, by decide⟩, List.forall_mem_cons.mpr ⟨⟨q971, Or.inl q970, q105, rfl, ⟨plainFor_of_name rfl, by decide, by decide⟩, by decide⟩, List.forall_mem_cons.mpr ⟨⟨q974, Or.inl q973, q105, rfl, ⟨plainFor_of_name rfl, by decide, by decide⟩, by decide⟩, List.forall_mem_cons.mpr ⟨⟨q488, Or.inl q487, q107, rfl, ⟨plainFor_of_name rfl, by decide, by decide⟩, by decide⟩, List.forall_mem_cons.mpr ⟨⟨q491, Or.inl q490, q108, rfl, ⟨plainFor_of_name rfl, by decide, by decide⟩, by decide⟩, fun _ h => nomatch h⟩⟩⟩⟩⟩⟩⟩⟩⟩⟩⟩⟩⟩⟩⟩⟩⟩⟩⟩⟩⟩⟩⟩⟩⟩⟩⟩⟩⟩⟩⟩⟩⟩⟩⟩⟩⟩⟩⟩⟩
def zms_6 : List zM := [(yJ7_checkFromToIndex, cJ7_checkFromToIndex, 4, (some .int), 1, 28, [], false),
  (yJ7_checkFromIndexSize, cJ7_checkFromIndexSize, 4, (some .int), 1, 28, [], false),
  (yJ8_indexOf, cJ8_indexOf, 2, (some .int), 7, 29, [], false),
  (yJ8_indexOf_2, cJ8_indexOf_2, 3, (some .int), 6, 29, [], false),
  (yJ8_isLatin1, cJ8_isLatin1, 1, (some .boolean), 1, 29, [], false),
  (yJ8_length, cJ8_length, 1, (some .int), 2, 29, [], false),
  (yJ8_coder, cJ8_coder, 1, (some .byte), 1, 29, [], false),
  (yJ8_checkBoundsBeginEnd, cJ8_checkBoundsBeginEnd, 3, none, 2, 29, [], false),
  (yJ8_charAt, cJ8_charAt, 2, (some .char), 5, 29, [], false),
  (yJ8_checkIndex, cJ8_checkIndex, 2, none, 2, 29, [], false),
  (yJ8_checkBoundsOffCount, cJ8_checkBoundsOffCount, 3, (some .int), 2, 29, [], false),
  (yJ8_init, cJ8_init, 2, none, 7, 29, [], true),
  (yJ8_init_2, cJ8_init_2, 5, none, 6, 29, [], true),
  (yJ8_equals, cJ8_equals, 3, (some .boolean), 2, 29, [], false),
  (yJ9_indexOf, cJ9_indexOf, 4, (some .int), 2, 30, [], false),
  (yJ9_canEncode, cJ9_canEncode, 1, (some .boolean), 1, 30, [], false),
  (yJ9_indexOfChar, cJ9_indexOfChar, 6, (some .int), 1, 30, [], false),
  (yJ9_charAt, cJ9_charAt, 2, (some .char), 3, 30, [], false),
  (yJ9_canEncode_2, cJ9_canEncode_2, 1, (some .boolean), 1, 30, [], false),
  (yJ9_inflate, cJ9_inflate, 5, none, 5, 30, [], false),
  (yJ9_equals, cJ9_equals, 3, (some .boolean), 1, 30, [], false),
  (yJ10_indexOf, cJ10_indexOf, 4, (some .int), 5, 31, [], false),
  (yJ10_indexOfChar, cJ10_indexOfChar, 4, (some .int), 4, 31, [], false),
  (yJ10_checkBoundsBeginEnd, cJ10_checkBoundsBeginEnd, 3, none, 3, 31, [], false),
  (yJ10_length, cJ10_length, 1, (some .int), 1, 31, [], false),
  (yJ10_indexOfCharUnsafe, cJ10_indexOfCharUnsafe, 5, (some .int), 3, 31, [], false),
  (yJ10_getChar, cJ10_getChar, 2, (some .char), 2, 31, [], false),
  (yJ10_indexOfSupplementary, cJ10_indexOfSupplementary, 7, (some .int), 4, 31, [], false),
  (yJ10_charAt, cJ10_charAt, 2, (some .char), 4, 31, [], false),
  (yJ10_checkIndex, cJ10_checkIndex, 2, none, 3, 31, [], false),
  (yJ10_newBytesFor, cJ10_newBytesFor, 1, (some (.array .byte)), 2, 31, [], false),
  (yJ10_newBytesLength, cJ10_newBytesLength, 1, (some .int), 1, 31, [], false),
  (yJ10_inflate, cJ10_inflate, 6, none, 4, 31, [], false),
  (yJ10_checkBoundsOffCount, cJ10_checkBoundsOffCount, 3, none, 3, 31, [], false),
  (yJ10_putChar, cJ10_putChar, 3, none, 2, 31, [], false),
  (yJ10_putCharSB, cJ10_putCharSB, 3, none, 4, 31, [], false),
  (yJ10_compress, cJ10_compress, 6, (some (.array .byte)), 5, 31, [], false),
  (yJ10_compress_2, cJ10_compress_2, 7, (some .int), 4, 31, [], false),
  (yJ10_coderFromArrayLen, cJ10_coderFromArrayLen, 2, (some .byte), 1, 31, [], false),
  (yJ11_isValidCodePoint, cJ11_isValidCodePoint, 2, (some .boolean), 1, 32, [], false)]
theorem zms_6_ok : ∀ e ∈ zms_6, zMok e := List.forall_mem_cons.mpr ⟨⟨q710, Or.inl q709, q108, rfl, ⟨plainFor_of_name rfl, by decide, by decide⟩, by decide⟩, List.forall_mem_cons.mpr ⟨⟨q932, Or.inl q931, q108, rfl, ⟨plainFor_of_name rfl, by decide, by decide⟩, by decide⟩, List.forall_mem_cons.mpr ⟨⟨q658, Or.inr q656, q112, rfl, ⟨plainFor_of_name rfl, by decide, by decide⟩, by decide⟩, List.forall_mem_cons.mpr ⟨⟨q662, Or.inr q660, q112, rfl, ⟨plainFor_of_name rfl, by decide, by decide⟩, by decide⟩, List.forall_mem_cons.mpr ⟨⟨q666, Or.inr q664, q112, rfl, ⟨plainFor_of_name rfl, by decide, by decide⟩, by decide⟩, List.forall_mem_cons.mpr ⟨⟨q672, Or.inr q670, q112, rfl, ⟨plainFor_of_name rfl, by decide, by decide⟩, by decide⟩, List.forall_mem_cons.mpr ⟨⟨q676, Or.inr q674, q112, rfl, ⟨plainFor_of_name rfl, by decide, by decide⟩, by decide⟩, List.forall_mem_cons.mpr ⟨⟨q705, Or.inl q704, q112, rfl, ⟨plainFor_of_name rfl, by decide, by decide⟩, by decide⟩, List.forall_mem_cons.mpr ⟨⟨q751, Or.inr q749, q112, rfl, ⟨plainFor_of_name rfl, by decide, by decide⟩, by decide⟩, List.forall_mem_cons.mpr ⟨⟨q757, Or.inl q756, q112, rfl, ⟨plainFor_of_name rfl, by decide, by decide⟩, by decide⟩, List.forall_mem_cons.mpr ⟨⟨q929, Or.inl q928, q112, rfl, ⟨plainFor_of_name rfl, by decide, by decide⟩, by decide⟩, List.forall_mem_cons.mpr ⟨⟨q947, Or.inr q946, q112, rfl, ⟨plainFor_of_name rfl, by decide, by decide⟩, by decide⟩, List.forall_mem_cons.mpr ⟨⟨q950, Or.inr q949, q112, rfl, ⟨plainFor_of_name rfl, by decide, by decide⟩, by decide⟩, List.forall_mem_cons.mpr ⟨⟨q1032, Or.inr q1031, q112, rfl, ⟨plainFor_of_name rfl, by decide, by decide⟩, by decide⟩, List.forall_mem_cons.mpr ⟨⟨q679, Or.inl q678, q113, rfl, ⟨plainFor_of_name rfl, by decide, by decide⟩, by decide⟩, List.forall_mem_cons.mpr ⟨⟨q682, Or.inl q681, q113, rfl, ⟨plainFor_of_name rfl, by decide, by decide⟩, by decide⟩, List.forall_mem_cons.mpr ⟨⟨q687, Or.inl q686, q113, rfl, ⟨plainFor_of_name rfl, by decide, by decide⟩, by decide⟩, List.forall_mem_cons.mpr ⟨⟨q754, Or.inl q753, q113, rfl, ⟨plainFor_of_name rfl, by decide, by decide⟩, by decide⟩, List.forall_mem_cons.mpr ⟨⟨q913, Or.inl q912, q113, rfl, ⟨plainFor_of_name rfl, by decide, by decide⟩, by decide⟩, List.forall_mem_cons.mpr ⟨⟨q920, Or.inl q919, q113, rfl, ⟨plainFor_of_name rfl, by decide, by decide⟩, by decide⟩, List.forall_mem_cons.mpr ⟨⟨q1036, Or.inl q1035, q113, rfl, ⟨plainFor_of_name rfl, by decide, by decide⟩, by decide⟩, List.forall_mem_cons.mpr ⟨⟨q690, Or.inl q689, q114, rfl, ⟨plainFor_of_name rfl, by decide, by decide⟩, by decide⟩, List.forall_mem_cons.mpr ⟨⟨q696, Or.inl q695, q114, rfl, ⟨plainFor_of_name rfl, by decide, by decide⟩, by decide⟩, List.forall_mem_cons.mpr ⟨⟨q699, Or.inl q698, q114, rfl, ⟨plainFor_of_name rfl, by decide, by decide⟩, by decide⟩, List.forall_mem_cons.mpr ⟨⟨q702, Or.inl q701, q114, rfl, ⟨plainFor_of_name rfl, by decide, by decide⟩, by decide⟩, List.forall_mem_cons.mpr ⟨⟨q713, Or.inl q712, q114, rfl, ⟨plainFor_of_name rfl, by decide, by decide⟩, by decide⟩, List.forall_mem_cons.mpr ⟨⟨q716, Or.inl q715, q114, rfl, ⟨plainFor_of_name rfl, by decide, by decide⟩, by decide⟩, List.forall_mem_cons.mpr ⟨⟨q725, Or.inl q724, q114, rfl, ⟨plainFor_of_name rfl, by decide, by decide⟩, by decide⟩, List.forall_mem_cons.mpr ⟨⟨q761, Or.inl q760, q114, rfl, ⟨plainFor_of_name rfl, by decide, by decide⟩, by decide⟩, List.forall_mem_cons.mpr ⟨⟨q764, Or.inl q763, q114, rfl, ⟨plainFor_of_name rfl, by decide, by decide⟩, by decide⟩, List.forall_mem_cons.mpr ⟨⟨q861, Or.inl q860, q114, rfl, ⟨plainFor_of_name rfl, by decide, by decide⟩, by decide⟩, List.forall_mem_cons.mpr ⟨⟨q864, Or.inl q863, q114, rfl, ⟨plainFor_of_name rfl, by decide, by decide⟩, by decide⟩, List.forall_mem_cons.mpr ⟨⟨q923, Or.inl q922, q114, rfl, ⟨plainFor_of_name rfl, by decide, by decide⟩, by decide⟩, List.forall_mem_cons.mpr ⟨⟨q926, Or.inl q925, q114, rfl, ⟨plainFor_of_name rfl, by decide, by decide⟩, by decide⟩, List.forall_mem_cons.mpr ⟨⟨q935, Or.inl q934, q114, rfl, ⟨plainFor_of_name rfl, by decide, by decide⟩, by decide⟩, List.forall_mem_cons.mpr ⟨⟨q938, Or.inl q937, q114, rfl, ⟨plainFor_of_name rfl, by decide, by decide⟩, by decide⟩, List.forall_mem_cons.mpr ⟨⟨q977, Or.inl q976, q114, rfl, ⟨plainFor_of_name rfl, by decide, by decide⟩, by decide⟩, List.forall_mem_cons.mpr ⟨⟨q980, Or.inl q979, q114, rfl, ⟨plainFor_of_name rfl, by decide, by decide⟩, by decide⟩, List.forall_mem_cons.mpr ⟨⟨q984, Or.inl q983, q114, rfl, ⟨plainFor_of_name rfl, by decide, by decide⟩, by decide⟩, List.forall_mem_cons.mpr ⟨⟨q728, Or.inl q727, q115, rfl, ⟨plainFor_of_name rfl, by decide, by decide⟩, by decide⟩, fun _ h => nomatch h⟩⟩⟩⟩⟩⟩⟩⟩⟩⟩⟩⟩⟩⟩⟩⟩⟩⟩⟩⟩⟩⟩⟩⟩⟩⟩⟩⟩⟩⟩⟩⟩⟩⟩⟩⟩⟩⟩⟩⟩
def zms_7 : List zM := [(yJ11_highSurrogate, cJ11_highSurrogate, 1, (some .char), 1, 32, [], false),
  (yJ11_lowSurrogate, cJ11_lowSurrogate, 1, (some .char), 1, 32, [], false),
  (yJ12_init, cJ12_init, 1, none, 1, 33, [], true),
  (yJ12_init_2, cJ12_init_2, 5, none, 1, 33, [], true),
  (yJ13_init, cJ13_init, 5, none, 2, 34, [], true),
  (yJ13_init_2, cJ13_init_2, 1, none, 2, 34, [], true),
  (yJ14_init, cJ14_init, 5, none, 3, 35, [], true),
  (yJ14_init_2, cJ14_init_2, 1, none, 3, 35, [], true),
  (yJ15_init, cJ15_init, 2, none, 3, 36, [], true),
  (yJ15_append, cJ15_append, 2, (some (.object "java/lang/AbstractStringBuilder")), 7, 36, [], false),
  (yJ15_ensureCapacityInternal, cJ15_ensureCapacityInternal, 3, none, 4, 36, [], false),
  (yJ15_newCapacity, cJ15_newCapacity, 6, (some .int), 3, 36, [], false),
  (yJ15_isLatin1, cJ15_isLatin1, 1, (some .boolean), 1, 36, [], false),
  (yJ15_inflate, cJ15_inflate, 2, none, 6, 36, [], false),
  (yJ15_getValue, cJ15_getValue, 1, (some (.array .byte)), 1, 36, [], false),
  (yJ15_length, cJ15_length, 1, (some .int), 1, 36, [], false),
  (yJ15_charAt, cJ15_charAt, 5, (some .char), 3, 36, [], false),
  (yJ16_init, cJ16_init, 2, none, 4, 37, [], true),
  (yJ16_append, cJ16_append, 2, (some (.object "java/lang/StringBuilder")), 8, 37, [], false),
  (yJ16_toString, cJ16_toString, 1, (some (.object "java/lang/String")), 8, 37, [], false),
  (yJ16_length, cJ16_length, 1, (some .int), 2, 37, [], false),
  (yJ16_charAt, cJ16_charAt, 2, (some .char), 4, 37, [], false),
  (yJ17_bitCount, cJ17_bitCount, 1, (some .int), 1, 38, [], false),
  (yJ18_init, cJ18_init, 1, none, 4, 39, [], true),
  (yJ19_equals, cJ19_equals, 2, (some .boolean), 1, 40, [], false)]
theorem zms_7_ok : ∀ e ∈ zms_7, zMok e := List.forall_mem_cons.mpr ⟨⟨q731, Or.inl q730, q115, rfl, ⟨plainFor_of_name rfl, by decide, by decide⟩, by decide⟩, List.forall_mem_cons.mpr ⟨⟨q735, Or.inl q734, q115, rfl, ⟨plainFor_of_name rfl, by decide, by decide⟩, by decide⟩, List.forall_mem_cons.mpr ⟨⟨q794, Or.inr q793, q116, rfl, ⟨plainFor_of_name rfl, by decide, by decide⟩, by decide⟩, List.forall_mem_cons.mpr ⟨⟨q821, Or.inr q820, q116, rfl, ⟨plainFor_of_name rfl, by decide, by decide⟩, by decide⟩, List.forall_mem_cons.mpr ⟨⟨q818, Or.inr q817, q117, rfl, ⟨plainFor_of_name rfl, by decide, by decide⟩, by decide⟩, List.forall_mem_cons.mpr ⟨⟨q1489, Or.inr q1488, q117, rfl, ⟨plainFor_of_name rfl, by decide, by decide⟩, by decide⟩, List.forall_mem_cons.mpr ⟨⟨q815, Or.inr q814, q118, rfl, ⟨plainFor_of_name rfl, by decide, by decide⟩, by decide⟩, List.forall_mem_cons.mpr ⟨⟨q1486, Or.inr q1485, q118, rfl, ⟨plainFor_of_name rfl, by decide, by decide⟩, by decide⟩, List.forall_mem_cons.mpr ⟨⟨q856, Or.inr q855, q120, rfl, ⟨plainFor_of_name rfl, by decide, by decide⟩, by decide⟩, List.forall_mem_cons.mpr ⟨⟨q885, Or.inr q884, q120, rfl, ⟨plainFor_of_name rfl, by decide, by decide⟩, by decide⟩, List.forall_mem_cons.mpr ⟨⟨q889, Or.inr q888, q120, rfl, ⟨plainFor_of_name rfl, by decide, by decide⟩, by decide⟩, List.forall_mem_cons.mpr ⟨⟨q893, Or.inr q892, q120, rfl, ⟨plainFor_of_name rfl, by decide, by decide⟩, by decide⟩, List.forall_mem_cons.mpr ⟨⟨q910, Or.inr q907, q120, rfl, ⟨plainFor_of_name rfl, by decide, by decide⟩, by decide⟩, List.forall_mem_cons.mpr ⟨⟨q917, Or.inr q916, q120, rfl, ⟨plainFor_of_name rfl, by decide, by decide⟩, by decide⟩, List.forall_mem_cons.mpr ⟨⟨q956, Or.inr q953, q120, rfl, ⟨plainFor_of_name rfl, by decide, by decide⟩, by decide⟩, List.forall_mem_cons.mpr ⟨⟨q964, Or.inr q958, q120, rfl, ⟨plainFor_of_name rfl, by decide, by decide⟩, by decide⟩, List.forall_mem_cons.mpr ⟨⟨q1282, Or.inr q1281, q120, rfl, ⟨plainFor_of_name rfl, by decide, by decide⟩, by decide⟩, List.forall_mem_cons.mpr ⟨⟨q853, Or.inr q852, q121, rfl, ⟨plainFor_of_name rfl, by decide, by decide⟩, by decide⟩, List.forall_mem_cons.mpr ⟨⟨q882, Or.inr q880, q121, rfl, ⟨plainFor_of_name rfl, by decide, by decide⟩, by decide⟩, List.forall_mem_cons.mpr ⟨⟨q942, Or.inr q940, q121, rfl, ⟨plainFor_of_name rfl, by decide, by decide⟩, by decide⟩, List.forall_mem_cons.mpr ⟨⟨q962, Or.inr q961, q121, rfl, ⟨plainFor_of_name rfl, by decide, by decide⟩, by decide⟩, List.forall_mem_cons.mpr ⟨⟨q1279, Or.inr q1277, q121, rfl, ⟨plainFor_of_name rfl, by decide, by decide⟩, by decide⟩, List.forall_mem_cons.mpr ⟨⟨q1247, Or.inl q1246, q132, rfl, ⟨plainFor_of_name rfl, by decide, by decide⟩, by decide⟩, List.forall_mem_cons.mpr ⟨⟨q1483, Or.inr q1482, q133, rfl, ⟨plainFor_of_name rfl, by decide, by decide⟩, by decide⟩, List.forall_mem_cons.mpr ⟨⟨q1038, Or.inr q1010, q2157, rfl, ⟨by decide +kernel, by decide, by decide⟩, by decide⟩, fun _ h => nomatch h⟩⟩⟩⟩⟩⟩⟩⟩⟩⟩⟩⟩⟩⟩⟩⟩⟩⟩⟩⟩⟩⟩⟩⟩⟩
def zms : List zM := zms_0 ++ (zms_1 ++ (zms_2 ++ (zms_3 ++ (zms_4 ++ (zms_5 ++ (zms_6 ++ (zms_7)))))))
theorem zms_ok : ∀ e ∈ zms, zMok e := List.forall_mem_append.mpr ⟨zms_0_ok, List.forall_mem_append.mpr ⟨zms_1_ok, List.forall_mem_append.mpr ⟨zms_2_ok, List.forall_mem_append.mpr ⟨zms_3_ok, List.forall_mem_append.mpr ⟨zms_4_ok, List.forall_mem_append.mpr ⟨zms_5_ok, List.forall_mem_append.mpr ⟨zms_6_ok, zms_7_ok⟩⟩⟩⟩⟩⟩⟩
def mX0_look : Nat := 0
def mX0_fair : Nat := 1
def mX0_lean : Nat := 2
def mX0_mean : Nat := 3
def mX1_init : Nat := 4
def mX1_days : Nat := 5
def mX1_in : Nat := 6
def mX1_changed : Nat := 7
def mX1_view : Nat := 8
def mX1_shop : Nat := 9
def mX1_buyer : Nat := 10
def mX1_terms : Nat := 11
def mX1_rest : Nat := 12
def mX1_visit : Nat := 13
def mX1_isShop : Nat := 14
def mX1_isBuyer : Nat := 15
def mX1_appeal : Nat := 16
def mX1_isVisit : Nat := 17
def mX1_feed : Nat := 18
def mX1_brief : Nat := 19
def mX1_isDay : Nat := 20
def mX1_fewest : Nat := 21
def mX1_works : Nat := 22
def mX1_sees : Nat := 23
def mX1_day : Nat := 24
def mX1_scores : Nat := 25
def mX1_isFirstOf : Nat := 26
def mX1_seeks : Nat := 27
def mX1_parts : Nat := 28
def mX1_leans : Nat := 29
def mX1_set : Nat := 30
def mX1_meetings : Nat := 31
def mX1_doubt : Nat := 32
def mX1_areDays : Nat := 33
def mX1_meanOf : Nat := 34
def mX1_fair : Nat := 35
def mX1_apart : Nat := 36
def mX1_order : Nat := 37
def mX1_row : Nat := 38
def mX1_enough : Nat := 39
def mX1_may : Nat := 40
def mX1_mayGo : Nat := 41
def mX1_given : Nat := 42
def mX1_sumBy : Nat := 43
def mX1_drawn : Nat := 44
def mX1_latest : Nat := 45
def mX1_sway : Nat := 46
def mX1_sum : Nat := 47
def mX1_count : Nat := 48
def mX1_look : Nat := 49
def mX1_visitAt : Nat := 50
def mX1_need : Nat := 51
def mX1_fair_2 : Nat := 52
def mX1_lean : Nat := 53
def mX1_mean : Nat := 54
def mX2_init : Nat := 55
def mX2_begin : Nat := 56
def mX2_next : Nat := 57
def mX2_at : Nat := 58
def mX2_isLetter : Nat := 59
def mX2_isDigit : Nat := 60
def mX2_whole : Nat := 61
def mX2_which : Nat := 62
def mX2_wrong : Nat := 63
def mX2_let : Nat := 64
def mX2_name : Nat := 65
def mX2_need : Nat := 66
def mX2_isSign : Nat := 67
def mX2_e : Nat := 68
def mX2_test : Nat := 69
def mX2_sum : Nat := 70
def mX2_term : Nat := 71
def mX2_part : Nat := 72
def mX2_number : Nat := 73
def mX2_need_2 : Nat := 74
def mX2_meets : Nat := 75
def mX3_init : Nat := 76
def mX3_be : Nat := 77
def mX4_thrown : Nat := 78
def mX4_feed : Nat := 79
def mX4_lay : Nat := 80
def mX4_init : Nat := 81
def mX4_brief : Nat := 82
def mX4_cutAll : Nat := 83
def mX4_isLetter : Nat := 84
def mX4_rank : Nat := 85
def mX4_isDigit : Nat := 86
def mX4_isSignOf : Nat := 87
def mX4_readLine : Nat := 88
def mX4_isWord : Nat := 89
def mX4_wrong : Nat := 90
def mX4_readLet : Nat := 91
def mX4_isName : Nat := 92
def mX4_findName : Nat := 93
def mX4_takeSign : Nat := 94
def mX4_isSign : Nat := 95
def mX4_readTests : Nat := 96
def mX4_all : Nat := 97
def mX4_test : Nat := 98
def mX4_sums : Nat := 99
def mX4_products : Nat := 100
def mX4_takePart : Nat := 101
def mX4_hasWord : Nat := 102
def mX4_emit : Nat := 103
def mX4_takeNumber : Nat := 104
def mX4_hasSign : Nat := 105
def mX4_takeWord : Nat := 106
def mX4_keeps : Nat := 107
def mX4_days : Nat := 108
def mX4_within : Nat := 109
def mX4_view : Nat := 110
def mX4_shop : Nat := 111
def mX4_isPlace : Nat := 112
def mX4_buyer : Nat := 113
def mX4_terms : Nat := 114
def mX4_rest : Nat := 115
def mX4_visit : Nat := 116
def mX4_isShop : Nat := 117
def mX4_isBuyer : Nat := 118
def mX4_visitsOf : Nat := 119
def mX4_appeal : Nat := 120
def mX4_look : Nat := 121
def mX4_isSeen : Nat := 122
def mX4_viewDay : Nat := 123
def mX4_findAll : Nat := 124
def mX4_isAhead : Nat := 125
def mX4_latest : Nat := 126
def mX4_formNow : Nat := 127
def mX4_tells : Nat := 128
def mX4_bits : Nat := 129
def mX4_briefOf : Nat := 130
def mX4_judges : Nat := 131
def mX4_worth : Nat := 132
def mX4_both : Nat := 133
def mX4_isAlone : Nat := 134
def mX4_findFewest : Nat := 135
def mX4_areBoth : Nat := 136
def mX4_wayBetween : Nat := 137
def mX4_doesDo : Nat := 138
def mX4_isFirst : Nat := 139
def mX4_counts : Nat := 140
def mX4_fewest : Nat := 141
def mX4_isDay : Nat := 142
def mX4_set : Nat := 143
def mX4_fair : Nat := 144
def mX4_findLeans : Nat := 145
def mX4_isMeeting : Nat := 146
def mX4_fairOf : Nat := 147
def mX4_lean : Nat := 148
def mX4_meetings : Nat := 149
def mX4_mean : Nat := 150
def mX4_hasMean : Nat := 151
def mX4_areDays : Nat := 152
def mX4_findMeans : Nat := 153
def mX4_doubt : Nat := 154
def mX4_doubtOf : Nat := 155
def mX4_apart : Nat := 156
def mX4_areTwo : Nat := 157
def mX4_isLess : Nat := 158
def mX4_order : Nat := 159
def mX4_enough : Nat := 160
def mX4_may : Nat := 161
def mX4_mayGo : Nat := 162
def mX4_given : Nat := 163
def mX4_gives : Nat := 164
def mX4_wayOf : Nat := 165
def mX4_sumBy : Nat := 166
def mX4_drawn : Nat := 167
def mX4_sway : Nat := 168
def mX4_sum : Nat := 169
def mX4_count : Nat := 170
def mX5_init : Nat := 171
def mX6_init : Nat := 172
def mX6_way : Nat := 173
def mX7_init : Nat := 174
def mX7_canBeAlone : Nat := 175
def mX7_behind : Nat := 176
def mX7_isAheadOf : Nat := 177
def mX7_quarrels : Nat := 178
def mX7_meets : Nat := 179
def mX7_counts : Nat := 180
def mX8_init : Nat := 181
def mX9_init : Nat := 182
def mX9_score : Nat := 183
def mX9_asks : Nat := 184
def mX9_bonus : Nat := 185
def mX10_init : Nat := 186
def mX11_init : Nat := 187
def mX12_init : Nat := 188
def mX12_value : Nat := 189
def mX13_init : Nat := 190
def mX13_value : Nat := 191
def mX14_init : Nat := 192
def mX14_value : Nat := 193
def mX15_init : Nat := 194
def mX15_value : Nat := 195
def mX16_init : Nat := 196
def mX16_and : Nat := 197
def mX16_value : Nat := 198
def mX16_worked : Nat := 199
def mX17_init : Nat := 200
def mX17_holds : Nat := 201
def mX17_fails : Nat := 202
def mX17_adds : Nat := 203
def mX17_bonus : Nat := 204
def mX18_init : Nat := 205
def mX18_fails : Nat := 206
def mX19_init : Nat := 207
def mX19_adds : Nat := 208
def mX20_init : Nat := 209
def mX20_bonus : Nat := 210
def mJ0_init : Nat := 211
def mJ1_init : Nat := 212
def mJ2_init : Nat := 213
def mJ2_size : Nat := 214
def mJ2_add : Nat := 215
def mJ2_add_2 : Nat := 216
def mJ2_grow : Nat := 217
def mJ2_grow_2 : Nat := 218
def mJ2_get : Nat := 219
def mJ2_elementData : Nat := 220
def mJ2_contains : Nat := 221
def mJ2_indexOf : Nat := 222
def mJ2_indexOfRange : Nat := 223
def mJ2_clear : Nat := 224
def mJ2_add_3 : Nat := 225
def mJ2_rangeCheckForAdd : Nat := 226
def mJ3_newLength : Nat := 227
def mJ3_hugeLength : Nat := 228
def mJ4_max : Nat := 229
def mJ4_min : Nat := 230
def mJ4_abs : Nat := 231
def mJ5_copyOf : Nat := 232
def mJ5_copyOf_2 : Nat := 233
def mJ5_copyOf_3 : Nat := 234
def mJ5_copyOfRange : Nat := 235
def mJ5_copyOfRangeByte : Nat := 236
def mJ5_checkLength : Nat := 237
def mJ6_checkIndex : Nat := 238
def mJ7_checkIndex : Nat := 239
def mJ7_checkFromToIndex : Nat := 240
def mJ7_checkFromIndexSize : Nat := 241
def mJ8_indexOf : Nat := 242
def mJ8_indexOf_2 : Nat := 243
def mJ8_isLatin1 : Nat := 244
def mJ8_length : Nat := 245
def mJ8_coder : Nat := 246
def mJ8_checkBoundsBeginEnd : Nat := 247
def mJ8_charAt : Nat := 248
def mJ8_checkIndex : Nat := 249
def mJ8_checkBoundsOffCount : Nat := 250
def mJ8_init : Nat := 251
def mJ8_init_2 : Nat := 252
def mJ8_equals : Nat := 253
def mJ9_indexOf : Nat := 254
def mJ9_canEncode : Nat := 255
def mJ9_indexOfChar : Nat := 256
def mJ9_charAt : Nat := 257
def mJ9_canEncode_2 : Nat := 258
def mJ9_inflate : Nat := 259
def mJ9_equals : Nat := 260
def mJ10_indexOf : Nat := 261
def mJ10_indexOfChar : Nat := 262
def mJ10_checkBoundsBeginEnd : Nat := 263
def mJ10_length : Nat := 264
def mJ10_indexOfCharUnsafe : Nat := 265
def mJ10_getChar : Nat := 266
def mJ10_indexOfSupplementary : Nat := 267
def mJ10_charAt : Nat := 268
def mJ10_checkIndex : Nat := 269
def mJ10_newBytesFor : Nat := 270
def mJ10_newBytesLength : Nat := 271
def mJ10_inflate : Nat := 272
def mJ10_checkBoundsOffCount : Nat := 273
def mJ10_putChar : Nat := 274
def mJ10_putCharSB : Nat := 275
def mJ10_compress : Nat := 276
def mJ10_compress_2 : Nat := 277
def mJ10_coderFromArrayLen : Nat := 278
def mJ11_isValidCodePoint : Nat := 279
def mJ11_highSurrogate : Nat := 280
def mJ11_lowSurrogate : Nat := 281
def mJ12_init : Nat := 282
def mJ12_init_2 : Nat := 283
def mJ13_init : Nat := 284
def mJ13_init_2 : Nat := 285
def mJ14_init : Nat := 286
def mJ14_init_2 : Nat := 287
def mJ15_init : Nat := 288
def mJ15_append : Nat := 289
def mJ15_ensureCapacityInternal : Nat := 290
def mJ15_newCapacity : Nat := 291
def mJ15_isLatin1 : Nat := 292
def mJ15_inflate : Nat := 293
def mJ15_getValue : Nat := 294
def mJ15_length : Nat := 295
def mJ15_charAt : Nat := 296
def mJ16_init : Nat := 297
def mJ16_append : Nat := 298
def mJ16_toString : Nat := 299
def mJ16_length : Nat := 300
def mJ16_charAt : Nat := 301
def mJ17_bitCount : Nat := 302
def mJ18_init : Nat := 303
def mJ19_equals : Nat := 304
abbrev zF : Type := Nat × Nat × Nat × Nat × List Nat × Bool
/-- what a field's entry stands on, for each class of objects that it is asked of -/
def zFok (e : zF) (ci : Nat) : Prop := ∃ q : vw_C, zcl[ci]? = some q ∧ e.2.2.1 < q.2.2 ∧ (parseFieldDescriptor (q.2.1 e.2.2.1).2.2.1).map zkd = some e.2.2.2.1 ∧ ∃ ref : String, (ref = (q.2.1 e.2.2.1).1 ∨ Cond.sameField ref (q.2.1 e.2.2.1).1 (q.2.1 e.2.2.1).2.1 (q.2.1 e.2.2.1).2.2.1 ∈ lw_all) ∧ (if e.2.2.2.2.2 = true then Cond.fieldLinkNest (zcn e.1) e.2.1 ref (q.2.1 e.2.2.1).2.1 (q.2.1 e.2.2.1).2.2.1 "SecretBuyers" ∈ lw_tbl else Cond.fieldLink (zcn e.1) e.2.1 ref (q.2.1 e.2.2.1).2.1 (q.2.1 e.2.2.1).2.2.1 ∈ lw_all) ∧ ((q.2.1 e.2.2.1).2.2.2 = true → (q.2.1 e.2.2.1).1 = zcn e.1 ∨ e.2.2.2.2.2 = true)
def zfs_0 : List zF := [(1, 9, 1, 0, [0], false),
  (1, 13, 3, 0, [0], false),
  (1, 16, 4, 0, [0], false),
  (1, 19, 5, 0, [0], false),
  (1, 22, 6, 0, [0], false),
  (1, 25, 7, 0, [0], false),
  (1, 33, 8, 6, [0], false),
  (1, 37, 9, 6, [0], false),
  (1, 40, 10, 6, [0], false),
  (1, 43, 11, 6, [0], false),
  (1, 46, 12, 6, [0], false),
  (1, 49, 13, 6, [0], false),
  (1, 56, 14, 6, [0], false),
  (1, 63, 15, 6, [0], false),
  (1, 67, 16, 1, [0], false),
  (1, 71, 17, 6, [0], false),
  (1, 74, 18, 6, [0], false),
  (1, 78, 19, 6, [0], false),
  (1, 83, 20, 6, [0], false),
  (1, 87, 21, 6, [0], false),
  (1, 90, 25, 6, [0], false),
  (1, 95, 26, 6, [0], false),
  (1, 100, 27, 6, [0], false),
  (1, 104, 28, 6, [0], false),
  (1, 110, 0, 0, [0], false),
  (1, 148, 1, 0, [6], true),
  (1, 151, 2, 0, [6], true),
  (1, 160, 8, 6, [6], true),
  (1, 164, 5, 1, [4], true),
  (1, 167, 7, 0, [6], true),
  (1, 175, 2, 0, [0], false),
  (1, 191, 6, 0, [9], true),
  (1, 217, 9, 1, [6], true),
  (1, 220, 5, 0, [6], true),
  (1, 223, 10, 0, [6], true),
  (1, 226, 0, 6, [7], true),
  (1, 230, 2, 0, [7], true),
  (1, 231, 1, 0, [7], true),
  (1, 237, 14, 0, [6], true),
  (1, 240, 15, 6, [6], true)]
theorem zfs_0_ok : ∀ e ∈ zfs_0, ∀ ci ∈ e.2.2.2.2.1, zFok e ci := List.forall_mem_cons.mpr ⟨List.forall_mem_cons.mpr ⟨⟨_, rfl, by decide, rfl, _, Or.inl rfl, q235, by decide⟩, fun _ h => nomatch h⟩, List.forall_mem_cons.mpr ⟨List.forall_mem_cons.mpr ⟨⟨_, rfl, by decide, rfl, _, Or.inl rfl, q237, by decide⟩, fun _ h => nomatch h⟩, List.forall_mem_cons.mpr ⟨List.forall_mem_cons.mpr ⟨⟨_, rfl, by decide, rfl, _, Or.inl rfl, q238, by decide⟩, fun _ h => nomatch h⟩, List.forall_mem_cons.mpr ⟨List.forall_mem_cons.mpr ⟨⟨_, rfl, by decide, rfl, _, Or.inl rfl, q239, by decide⟩, fun _ h => nomatch h⟩, List.forall_mem_cons.mpr ⟨List.forall_mem_cons.mpr ⟨⟨_, rfl, by decide, rfl, _, Or.inl rfl, q240, by decide⟩, fun _ h => nomatch h⟩, List.forall_mem_cons.mpr ⟨List.forall_mem_cons.mpr ⟨⟨_, rfl, by decide, rfl, _, Or.inl rfl, q241, by decide⟩, fun _ h => nomatch h⟩, List.forall_mem_cons.mpr ⟨List.forall_mem_cons.mpr ⟨⟨_, rfl, by decide, rfl, _, Or.inl rfl, q242, by decide⟩, fun _ h => nomatch h⟩, List.forall_mem_cons.mpr ⟨List.forall_mem_cons.mpr ⟨⟨_, rfl, by decide, rfl, _, Or.inl rfl, q243, by decide⟩, fun _ h => nomatch h⟩, List.forall_mem_cons.mpr ⟨List.forall_mem_cons.mpr ⟨⟨_, rfl, by decide, rfl, _, Or.inl rfl, q244, by decide⟩, fun _ h => nomatch h⟩, List.forall_mem_cons.mpr ⟨List.forall_mem_cons.mpr ⟨⟨_, rfl, by decide, rfl, _, Or.inl rfl, q245, by decide⟩, fun _ h => nomatch h⟩, List.forall_mem_cons.mpr ⟨List.forall_mem_cons.mpr ⟨⟨_, rfl, by decide, rfl, _, Or.inl rfl, q246, by decide⟩, fun _ h => nomatch h⟩, List.forall_mem_cons.mpr ⟨List.forall_mem_cons.mpr ⟨⟨_, rfl, by decide, rfl, _, Or.inl rfl, q247, by decide⟩, fun _ h => nomatch h⟩, List.forall_mem_cons.mpr ⟨List.forall_mem_cons.mpr ⟨⟨_, rfl, by decide, rfl, _, Or.inl rfl, q248, by decide⟩, fun _ h => nomatch h⟩, List.forall_mem_cons.mpr ⟨List.forall_mem_cons.mpr ⟨⟨_, rfl, by decide, rfl, _, Or.inl rfl, q249, by decide⟩, fun _ h => nomatch h⟩, List.forall_mem_cons.mpr ⟨List.forall_mem_cons.mpr ⟨⟨_, rfl, by decide, rfl, _, Or.inl rfl, q250, by decide⟩, fun _ h => nomatch h⟩, List.forall_mem_cons.mpr ⟨List.forall_mem_cons.mpr ⟨⟨_, rfl, by decide, rfl, _, Or.inl rfl, q251, by decide⟩, fun _ h => nomatch h⟩, List.forall_mem_cons.mpr ⟨List.forall_mem_cons.mpr ⟨⟨_, rfl, by decide, rfl, _, Or.inl rfl, q252, by decide⟩, fun _ h => nomatch h⟩, List.forall_mem_cons.mpr ⟨List.forall_mem_cons.mpr ⟨⟨_, rfl, by decide, rfl, _, Or.inl rfl, q253, by decide⟩, fun _ h => nomatch h⟩, List.forall_mem_cons.mpr ⟨List.forall_mem_cons.mpr ⟨⟨_, rfl, by decide, rfl, _, Or.inl rfl, q254, by decide⟩, fun _ h => nomatch h⟩, List.forall_mem_cons.mpr ⟨List.forall_mem_cons.mpr ⟨⟨_, rfl, by decide, rfl, _, Or.inl rfl, q255, by decide⟩, fun _ h => nomatch h⟩, List.forall_mem_cons.mpr ⟨List.forall_mem_cons.mpr ⟨⟨_, rfl, by decide, rfl, _, Or.inl rfl, q259, by decide⟩, fun _ h => nomatch h⟩, List.forall_mem_cons.mpr ⟨List.forall_mem_cons.mpr ⟨⟨_, rfl, by decide, rfl, _, Or.inl rfl, q260, by decide⟩, fun _ h => nomatch h⟩, List.forall_mem_cons.mpr ⟨List.forall_mem_cons.mpr ⟨⟨_, rfl, by decide, rfl, _, Or.inl rfl, q261, by decide⟩, fun _ h => nomatch h⟩, List.forall_mem_cons.mpr ⟨List.forall_mem_cons.mpr ⟨⟨_, rfl, by decide, rfl, _, Or.inl rfl, q262, by decide⟩, fun _ h => nomatch h⟩, List.forall_mem_cons.mpr ⟨List.forall_mem_cons.mpr ⟨⟨_, rfl, by decide, rfl, _, Or.inl rfl, q234, by decide⟩, fun _ h => nomatch h⟩, List.forall_mem_cons.mpr ⟨List.forall_mem_cons.mpr ⟨⟨_, rfl, by decide, rfl, _, Or.inl rfl, q504, by decide⟩, fun _ h => nomatch h⟩, List.forall_mem_cons.mpr ⟨List.forall_mem_cons.mpr ⟨⟨_, rfl, by decide, rfl, _, Or.inl rfl, q507, by decide⟩, fun _ h => nomatch h⟩, List.forall_mem_cons.mpr ⟨List.forall_mem_cons.mpr ⟨⟨_, rfl, by decide, rfl, _, Or.inl rfl, q519, by decide⟩, fun _ h => nomatch h⟩, List.forall_mem_cons.mpr ⟨List.forall_mem_cons.mpr ⟨⟨_, rfl, by decide, rfl, _, Or.inl rfl, q375, by decide⟩, fun _ h => nomatch h⟩, List.forall_mem_cons.mpr ⟨List.forall_mem_cons.mpr ⟨⟨_, rfl, by decide, rfl, _, Or.inl rfl, q517, by decide⟩, fun _ h => nomatch h⟩, List.forall_mem_cons.mpr ⟨List.forall_mem_cons.mpr ⟨⟨_, rfl, by decide, rfl, _, Or.inl rfl, q236, by decide⟩, fun _ h => nomatch h⟩, List.forall_mem_cons.mpr ⟨List.forall_mem_cons.mpr ⟨⟨_, rfl, by decide, rfl, _, Or.inl rfl, q823, by decide⟩, fun _ h => nomatch h⟩, List.forall_mem_cons.mpr ⟨List.forall_mem_cons.mpr ⟨⟨_, rfl, by decide, rfl, _, Or.inl rfl, q521, by decide⟩, fun _ h => nomatch h⟩, List.forall_mem_cons.mpr ⟨List.forall_mem_cons.mpr ⟨⟨_, rfl, by decide, rfl, _, Or.inl rfl, q513, by decide⟩, fun _ h => nomatch h⟩, List.forall_mem_cons.mpr ⟨List.forall_mem_cons.mpr ⟨⟨_, rfl, by decide, rfl, _, Or.inl rfl, q523, by decide⟩, fun _ h => nomatch h⟩, List.forall_mem_cons.mpr ⟨List.forall_mem_cons.mpr ⟨⟨_, rfl, by decide, rfl, _, Or.inl rfl, q579, by decide⟩, fun _ h => nomatch h⟩, List.forall_mem_cons.mpr ⟨List.forall_mem_cons.mpr ⟨⟨_, rfl, by decide, rfl, _, Or.inl rfl, q583, by decide⟩, fun _ h => nomatch h⟩, List.forall_mem_cons.mpr ⟨List.forall_mem_cons.mpr ⟨⟨_, rfl, by decide, rfl, _, Or.inl rfl, q581, by decide⟩, fun _ h => nomatch h⟩, List.forall_mem_cons.mpr ⟨List.forall_mem_cons.mpr ⟨⟨_, rfl, by decide, rfl, _, Or.inl rfl, q529, by decide⟩, fun _ h => nomatch h⟩, List.forall_mem_cons.mpr ⟨List.forall_mem_cons.mpr ⟨⟨_, rfl, by decide, rfl, _, Or.inl rfl, q530, by decide⟩, fun _ h => nomatch h⟩, fun _ h => nomatch h⟩⟩⟩⟩⟩⟩⟩⟩⟩⟩⟩⟩⟩⟩⟩⟩⟩⟩⟩⟩⟩⟩⟩⟩⟩⟩⟩⟩⟩⟩⟩⟩⟩⟩⟩⟩⟩⟩⟩⟩
def zfs_1 : List zF := [(1, 246, 0, 0, [8], true),
  (1, 247, 1, 0, [8], true),
  (1, 250, 1, 0, [4], true),
  (1, 251, 2, 0, [8], true),
  (1, 260, 11, 0, [6], true),
  (1, 263, 12, 0, [6], true),
  (1, 272, 13, 0, [6], true),
  (1, 274, 22, 0, [0], false),
  (1, 290, 23, 0, [0], false),
  (1, 311, 0, 0, [6], true),
  (1, 321, 24, 0, [0], false),
  (1, 324, 0, 0, [4], true),
  (1, 349, 4, 6, [4], true),
  (2, 9, 8, 0, [1], false),
  (2, 15, 9, 0, [1], false),
  (2, 18, 10, 0, [1], false),
  (2, 21, 0, 6, [1], false),
  (2, 25, 1, 0, [1], false),
  (2, 28, 2, 0, [1], false),
  (2, 31, 6, 0, [1], false),
  (2, 39, 7, 6, [1], false),
  (2, 46, 4, 0, [1], false),
  (2, 49, 3, 0, [1], false),
  (2, 63, 5, 0, [1], false),
  (2, 129, 3, 6, [8], true),
  (2, 173, 4, 6, [8], true),
  (2, 181, 5, 6, [8], true),
  (3, 9, 0, 6, [2], false),
  (3, 15, 1, 6, [2], false),
  (3, 24, 4, 0, [6], true),
  (3, 30, 3, 0, [6], true),
  (3, 33, 6, 0, [6], true),
  (3, 36, 2, 0, [6], true),
  (3, 39, 11, 0, [6], true),
  (4, 1, 0, 0, [3], false),
  (4, 11, 2, 0, [3], false),
  (4, 14, 1, 6, [3], false),
  (4, 24, 4, 6, [3], false),
  (4, 27, 5, 6, [3], false),
  (4, 30, 6, 6, [3], false)]
theorem zfs_1_ok : ∀ e ∈ zfs_1, ∀ ci ∈ e.2.2.2.2.1, zFok e ci := List.forall_mem_cons.mpr ⟨List.forall_mem_cons.mpr ⟨⟨_, rfl, by decide, rfl, _, Or.inl rfl, q616, by decide⟩, fun _ h => nomatch h⟩, List.forall_mem_cons.mpr ⟨List.forall_mem_cons.mpr ⟨⟨_, rfl, by decide, rfl, _, Or.inl rfl, q618, by decide⟩, fun _ h => nomatch h⟩, List.forall_mem_cons.mpr ⟨List.forall_mem_cons.mpr ⟨⟨_, rfl, by decide, rfl, _, Or.inl rfl, q366, by decide⟩, fun _ h => nomatch h⟩, List.forall_mem_cons.mpr ⟨List.forall_mem_cons.mpr ⟨⟨_, rfl, by decide, rfl, _, Or.inl rfl, q620, by decide⟩, fun _ h => nomatch h⟩, List.forall_mem_cons.mpr ⟨List.forall_mem_cons.mpr ⟨⟨_, rfl, by decide, rfl, _, Or.inl rfl, q525, by decide⟩, fun _ h => nomatch h⟩, List.forall_mem_cons.mpr ⟨List.forall_mem_cons.mpr ⟨⟨_, rfl, by decide, rfl, _, Or.inl rfl, q526, by decide⟩, fun _ h => nomatch h⟩, List.forall_mem_cons.mpr ⟨List.forall_mem_cons.mpr ⟨⟨_, rfl, by decide, rfl, _, Or.inl rfl, q527, by decide⟩, fun _ h => nomatch h⟩, List.forall_mem_cons.mpr ⟨List.forall_mem_cons.mpr ⟨⟨_, rfl, by decide, rfl, _, Or.inl rfl, q256, by decide⟩, fun _ h => nomatch h⟩, List.forall_mem_cons.mpr ⟨List.forall_mem_cons.mpr ⟨⟨_, rfl, by decide, rfl, _, Or.inl rfl, q257, by decide⟩, fun _ h => nomatch h⟩, List.forall_mem_cons.mpr ⟨List.forall_mem_cons.mpr ⟨⟨_, rfl, by decide, rfl, _, Or.inl rfl, q502, by decide⟩, fun _ h => nomatch h⟩, List.forall_mem_cons.mpr ⟨List.forall_mem_cons.mpr ⟨⟨_, rfl, by decide, rfl, _, Or.inl rfl, q258, by decide⟩, fun _ h => nomatch h⟩, List.forall_mem_cons.mpr ⟨List.forall_mem_cons.mpr ⟨⟨_, rfl, by decide, rfl, _, Or.inl rfl, q364, by decide⟩, fun _ h => nomatch h⟩, List.forall_mem_cons.mpr ⟨List.forall_mem_cons.mpr ⟨⟨_, rfl, by decide, rfl, _, Or.inl rfl, q373, by decide⟩, fun _ h => nomatch h⟩, List.forall_mem_cons.mpr ⟨List.forall_mem_cons.mpr ⟨⟨_, rfl, by decide, rfl, _, Or.inl rfl, q184, by decide⟩, fun _ h => nomatch h⟩, List.forall_mem_cons.mpr ⟨List.forall_mem_cons.mpr ⟨⟨_, rfl, by decide, rfl, _, Or.inl rfl, q185, by decide⟩, fun _ h => nomatch h⟩, List.forall_mem_cons.mpr ⟨List.forall_mem_cons.mpr ⟨⟨_, rfl, by decide, rfl, _, Or.inl rfl, q186, by decide⟩, fun _ h => nomatch h⟩, List.forall_mem_cons.mpr ⟨List.forall_mem_cons.mpr ⟨⟨_, rfl, by decide, rfl, _, Or.inl rfl, q176, by decide⟩, fun _ h => nomatch h⟩, List.forall_mem_cons.mpr ⟨List.forall_mem_cons.mpr ⟨⟨_, rfl, by decide, rfl, _, Or.inl rfl, q177, by decide⟩, fun _ h => nomatch h⟩, List.forall_mem_cons.mpr ⟨List.forall_mem_cons.mpr ⟨⟨_, rfl, by decide, rfl, _, Or.inl rfl, q178, by decide⟩, fun _ h => nomatch h⟩, List.forall_mem_cons.mpr ⟨List.forall_mem_cons.mpr ⟨⟨_, rfl, by decide, rfl, _, Or.inl rfl, q182, by decide⟩, fun _ h => nomatch h⟩, List.forall_mem_cons.mpr ⟨List.forall_mem_cons.mpr ⟨⟨_, rfl, by decide, rfl, _, Or.inl rfl, q183, by decide⟩, fun _ h => nomatch h⟩, List.forall_mem_cons.mpr ⟨List.forall_mem_cons.mpr ⟨⟨_, rfl, by decide, rfl, _, Or.inl rfl, q180, by decide⟩, fun _ h => nomatch h⟩, List.forall_mem_cons.mpr ⟨List.forall_mem_cons.mpr ⟨⟨_, rfl, by decide, rfl, _, Or.inl rfl, q179, by decide⟩, fun _ h => nomatch h⟩, List.forall_mem_cons.mpr ⟨List.forall_mem_cons.mpr ⟨⟨_, rfl, by decide, rfl, _, Or.inl rfl, q181, by decide⟩, fun _ h => nomatch h⟩, List.forall_mem_cons.mpr ⟨List.forall_mem_cons.mpr ⟨⟨_, rfl, by decide, rfl, _, Or.inl rfl, q622, by decide⟩, fun _ h => nomatch h⟩, List.forall_mem_cons.mpr ⟨List.forall_mem_cons.mpr ⟨⟨_, rfl, by decide, rfl, _, Or.inl rfl, q624, by decide⟩, fun _ h => nomatch h⟩, List.forall_mem_cons.mpr ⟨List.forall_mem_cons.mpr ⟨⟨_, rfl, by decide, rfl, _, Or.inl rfl, q626, by decide⟩, fun _ h => nomatch h⟩, List.forall_mem_cons.mpr ⟨List.forall_mem_cons.mpr ⟨⟨_, rfl, by decide, rfl, _, Or.inl rfl, q217, by decide⟩, fun _ h => nomatch h⟩, List.forall_mem_cons.mpr ⟨List.forall_mem_cons.mpr ⟨⟨_, rfl, by decide, rfl, _, Or.inl rfl, q219, by decide⟩, fun _ h => nomatch h⟩, List.forall_mem_cons.mpr ⟨List.forall_mem_cons.mpr ⟨⟨_, rfl, by decide, rfl, _, Or.inl rfl, q511, by decide⟩, fun _ h => nomatch h⟩, List.forall_mem_cons.mpr ⟨List.forall_mem_cons.mpr ⟨⟨_, rfl, by decide, rfl, _, Or.inl rfl, q509, by decide⟩, fun _ h => nomatch h⟩, List.forall_mem_cons.mpr ⟨List.forall_mem_cons.mpr ⟨⟨_, rfl, by decide, rfl, _, Or.inl rfl, q515, by decide⟩, fun _ h => nomatch h⟩, List.forall_mem_cons.mpr ⟨List.forall_mem_cons.mpr ⟨⟨_, rfl, by decide, rfl, _, Or.inl rfl, q506, by decide⟩, fun _ h => nomatch h⟩, List.forall_mem_cons.mpr ⟨List.forall_mem_cons.mpr ⟨⟨_, rfl, by decide, rfl, _, Or.inl rfl, q524, by decide⟩, fun _ h => nomatch h⟩, List.forall_mem_cons.mpr ⟨List.forall_mem_cons.mpr ⟨⟨_, rfl, by decide, rfl, _, Or.inl rfl, q1549, by decide⟩, fun _ h => nomatch h⟩, List.forall_mem_cons.mpr ⟨List.forall_mem_cons.mpr ⟨⟨_, rfl, by decide, rfl, _, Or.inl rfl, q1551, by decide⟩, fun _ h => nomatch h⟩, List.forall_mem_cons.mpr ⟨List.forall_mem_cons.mpr ⟨⟨_, rfl, by decide, rfl, _, Or.inl rfl, q1550, by decide⟩, fun _ h => nomatch h⟩, List.forall_mem_cons.mpr ⟨List.forall_mem_cons.mpr ⟨⟨_, rfl, by decide, rfl, _, Or.inl rfl, q1553, by decide⟩, fun _ h => nomatch h⟩, List.forall_mem_cons.mpr ⟨List.forall_mem_cons.mpr ⟨⟨_, rfl, by decide, rfl, _, Or.inl rfl, q1554, by decide⟩, fun _ h => nomatch h⟩, List.forall_mem_cons.mpr ⟨List.forall_mem_cons.mpr ⟨⟨_, rfl, by decide, rfl, _, Or.inl rfl, q1555, by decide⟩, fun _ h => nomatch h⟩, fun _ h => nomatch h⟩⟩⟩⟩⟩⟩⟩⟩⟩⟩⟩⟩⟩⟩⟩⟩⟩⟩⟩⟩⟩⟩⟩⟩⟩⟩⟩⟩⟩⟩⟩⟩⟩⟩⟩⟩⟩⟩⟩⟩
def zfs_2 : List zF := [(4, 64, 9, 6, [3], false),
  (4, 67, 11, 6, [3], false),
  (4, 70, 12, 6, [3], false),
  (4, 73, 13, 6, [3], false),
  (4, 76, 14, 6, [3], false),
  (4, 79, 15, 6, [3], false),
  (4, 82, 16, 6, [3], false),
  (4, 85, 17, 6, [3], false),
  (4, 88, 18, 6, [3], false),
  (4, 91, 20, 6, [3], false),
  (4, 94, 22, 6, [3], false),
  (4, 97, 23, 6, [3], false),
  (4, 100, 24, 6, [3], false),
  (4, 103, 26, 6, [3], false),
  (4, 106, 27, 6, [3], false),
  (4, 109, 33, 6, [3], false),
  (4, 112, 34, 6, [3], false),
  (4, 115, 35, 6, [3], false),
  (4, 118, 36, 6, [3], false),
  (4, 121, 37, 6, [3], false),
  (4, 124, 38, 6, [3], false),
  (4, 128, 40, 6, [3], false),
  (4, 131, 41, 6, [3], false),
  (4, 134, 48, 6, [3], false),
  (4, 137, 49, 6, [3], false),
  (4, 140, 50, 6, [3], false),
  (4, 143, 51, 6, [3], false),
  (4, 146, 52, 6, [3], false),
  (4, 149, 53, 6, [3], false),
  (4, 152, 54, 6, [3], false),
  (4, 155, 55, 6, [3], false),
  (4, 158, 57, 6, [3], false),
  (4, 161, 58, 6, [3], false),
  (4, 164, 59, 6, [3], false),
  (4, 167, 61, 6, [3], false),
  (4, 170, 62, 6, [3], false),
  (4, 173, 63, 6, [3], false),
  (4, 176, 64, 6, [3], false),
  (4, 179, 66, 6, [3], false),
  (4, 182, 67, 6, [3], false)]
theorem zfs_2_ok : ∀ e ∈ zfs_2, ∀ ci ∈ e.2.2.2.2.1, zFok e ci := List.forall_mem_cons.mpr ⟨List.forall_mem_cons.mpr ⟨⟨_, rfl, by decide, rfl, _, Or.inl rfl, q1558, by decide⟩, fun _ h => nomatch h⟩, List.forall_mem_cons.mpr ⟨List.forall_mem_cons.mpr ⟨⟨_, rfl, by decide, rfl, _, Or.inl rfl, q1560, by decide⟩, fun _ h => nomatch h⟩, List.forall_mem_cons.mpr ⟨List.forall_mem_cons.mpr ⟨⟨_, rfl, by decide, rfl, _, Or.inl rfl, q1561, by decide⟩, fun _ h => nomatch h⟩, List.forall_mem_cons.mpr ⟨List.forall_mem_cons.mpr ⟨⟨_, rfl, by decide, rfl, _, Or.inl rfl, q1562, by decide⟩, fun _ h => nomatch h⟩, List.forall_mem_cons.mpr ⟨List.forall_mem_cons.mpr ⟨⟨_, rfl, by decide, rfl, _, Or.inl rfl, q1563, by decide⟩, fun _ h => nomatch h⟩, List.forall_mem_cons.mpr ⟨List.forall_mem_cons.mpr ⟨⟨_, rfl, by decide, rfl, _, Or.inl rfl, q1564, by decide⟩, fun _ h => nomatch h⟩, List.forall_mem_cons.mpr ⟨List.forall_mem_cons.mpr ⟨⟨_, rfl, by decide, rfl, _, Or.inl rfl, q1565, by decide⟩, fun _ h => nomatch h⟩, List.forall_mem_cons.mpr ⟨List.forall_mem_cons.mpr ⟨⟨_, rfl, by decide, rfl, _, Or.inl rfl, q1566, by decide⟩, fun _ h => nomatch h⟩, List.forall_mem_cons.mpr ⟨List.forall_mem_cons.mpr ⟨⟨_, rfl, by decide, rfl, _, Or.inl rfl, q1567, by decide⟩, fun _ h => nomatch h⟩, List.forall_mem_cons.mpr ⟨List.forall_mem_cons.mpr ⟨⟨_, rfl, by decide, rfl, _, Or.inl rfl, q1569, by decide⟩, fun _ h => nomatch h⟩, List.forall_mem_cons.mpr ⟨List.forall_mem_cons.mpr ⟨⟨_, rfl, by decide, rfl, _, Or.inl rfl, q1571, by decide⟩, fun _ h => nomatch h⟩, List.forall_mem_cons.mpr ⟨List.forall_mem_cons.mpr ⟨⟨_, rfl, by decide, rfl, _, Or.inl rfl, q1572, by decide⟩, fun _ h => nomatch h⟩, List.forall_mem_cons.mpr ⟨List.forall_mem_cons.mpr ⟨⟨_, rfl, by decide, rfl, _, Or.inl rfl, q1573, by decide⟩, fun _ h => nomatch h⟩, List.forall_mem_cons.mpr ⟨List.forall_mem_cons.mpr ⟨⟨_, rfl, by decide, rfl, _, Or.inl rfl, q1575, by decide⟩, fun _ h => nomatch h⟩, List.forall_mem_cons.mpr ⟨List.forall_mem_cons.mpr ⟨⟨_, rfl, by decide, rfl, _, Or.inl rfl, q1576, by decide⟩, fun _ h => nomatch h⟩, List.forall_mem_cons.mpr ⟨List.forall_mem_cons.mpr ⟨⟨_, rfl, by decide, rfl, _, Or.inl rfl, q1582, by decide⟩, fun _ h => nomatch h⟩, List.forall_mem_cons.mpr ⟨List.forall_mem_cons.mpr ⟨⟨_, rfl, by decide, rfl, _, Or.inl rfl, q1583, by decide⟩, fun _ h => nomatch h⟩, List.forall_mem_cons.mpr ⟨List.forall_mem_cons.mpr ⟨⟨_, rfl, by decide, rfl, _, Or.inl rfl, q1584, by decide⟩, fun _ h => nomatch h⟩, List.forall_mem_cons.mpr ⟨List.forall_mem_cons.mpr ⟨⟨_, rfl, by decide, rfl, _, Or.inl rfl, q1585, by decide⟩, fun _ h => nomatch h⟩, List.forall_mem_cons.mpr ⟨List.forall_mem_cons.mpr ⟨⟨_, rfl, by decide, rfl, _, Or.inl rfl, q1586, by decide⟩, fun _ h => nomatch h⟩, List.forall_mem_cons.mpr ⟨List.forall_mem_cons.mpr ⟨⟨_, rfl, by decide, rfl, _, Or.inl rfl, q1587, by decide⟩, fun _ h => nomatch h⟩, List.forall_mem_cons.mpr ⟨List.forall_mem_cons.mpr ⟨⟨_, rfl, by decide, rfl, _, Or.inl rfl, q1589, by decide⟩, fun _ h => nomatch h⟩, List.forall_mem_cons.mpr ⟨List.forall_mem_cons.mpr ⟨⟨_, rfl, by decide, rfl, _, Or.inl rfl, q1590, by decide⟩, fun _ h => nomatch h⟩, List.forall_mem_cons.mpr ⟨List.forall_mem_cons.mpr ⟨⟨_, rfl, by decide, rfl, _, Or.inl rfl, q1597, by decide⟩, fun _ h => nomatch h⟩, List.forall_mem_cons.mpr ⟨List.forall_mem_cons.mpr ⟨⟨_, rfl, by decide, rfl, _, Or.inl rfl, q1598, by decide⟩, fun _ h => nomatch h⟩, List.forall_mem_cons.mpr ⟨List.forall_mem_cons.mpr ⟨⟨_, rfl, by decide, rfl, _, Or.inl rfl, q1599, by decide⟩, fun _ h => nomatch h⟩, List.forall_mem_cons.mpr ⟨List.forall_mem_cons.mpr ⟨⟨_, rfl, by decide, rfl, _, Or.inl rfl, q1600, by decide⟩, fun _ h => nomatch h⟩, List.forall_mem_cons.mpr ⟨List.forall_mem_cons.mpr ⟨⟨_, rfl, by decide, rfl, _, Or.inl rfl, q1601, by decide⟩, fun _ h => nomatch h⟩, List.forall_mem_cons.mpr ⟨List.forall_mem_cons.mpr ⟨⟨_, rfl, by decide, rfl, _, Or.inl rfl, q1602, by decide⟩, fun _ h => nomatch h⟩, List.forall_mem_cons.mpr ⟨List.forall_mem_cons.mpr ⟨⟨_, rfl, by decide, rfl, _, Or.inl rfl, q1603, by decide⟩, fun _ h => nomatch h⟩, List.forall_mem_cons.mpr ⟨List.forall_mem_cons.mpr ⟨⟨_, rfl, by decide, rfl, _, Or.inl rfl, q1604, by decide⟩, fun _ h => nomatch h⟩, List.forall_mem_cons.mpr ⟨List.forall_mem_cons.mpr ⟨⟨_, rfl, by decide, rfl, _, Or.inl rfl, q1606, by decide⟩, fun _ h => nomatch h⟩, List.forall_mem_cons.mpr ⟨List.forall_mem_cons.mpr ⟨⟨_, rfl, by decide, rfl, _, Or.inl rfl, q1607, by decide⟩, fun _ h => nomatch h⟩, List.forall_mem_cons.mpr ⟨List.forall_mem_cons.mpr ⟨⟨_, rfl, by decide, rfl, _, Or.inl rfl, q1608, by decide⟩, fun _ h => nomatch h⟩, List.forall_mem_cons.mpr ⟨List.forall_mem_cons.mpr ⟨⟨_, rfl, by decide, rfl, _, Or.inl rfl, q1610, by decide⟩, fun _ h => nomatch h⟩, List.forall_mem_cons.mpr ⟨List.forall_mem_cons.mpr ⟨⟨_, rfl, by decide, rfl, _, Or.inl rfl, q1611, by decide⟩, fun _ h => nomatch h⟩, List.forall_mem_cons.mpr ⟨List.forall_mem_cons.mpr ⟨⟨_, rfl, by decide, rfl, _, Or.inl rfl, q1612, by decide⟩, fun _ h => nomatch h⟩, List.forall_mem_cons.mpr ⟨List.forall_mem_cons.mpr ⟨⟨_, rfl, by decide, rfl, _, Or.inl rfl, q1613, by decide⟩, fun _ h => nomatch h⟩, List.forall_mem_cons.mpr ⟨List.forall_mem_cons.mpr ⟨⟨_, rfl, by decide, rfl, _, Or.inl rfl, q1615, by decide⟩, fun _ h => nomatch h⟩, List.forall_mem_cons.mpr ⟨List.forall_mem_cons.mpr ⟨⟨_, rfl, by decide, rfl, _, Or.inl rfl, q1616, by decide⟩, fun _ h => nomatch h⟩, fun _ h => nomatch h⟩⟩⟩⟩⟩⟩⟩⟩⟩⟩⟩⟩⟩⟩⟩⟩⟩⟩⟩⟩⟩⟩⟩⟩⟩⟩⟩⟩⟩⟩⟩⟩⟩⟩⟩⟩⟩⟩⟩⟩
def zfs_3 : List zF := [(4, 185, 71, 6, [3], false),
  (4, 188, 72, 6, [3], false),
  (4, 191, 73, 6, [3], false),
  (4, 194, 74, 6, [3], false),
  (4, 197, 75, 6, [3], false),
  (4, 200, 76, 6, [3], false),
  (4, 204, 77, 6, [3], false),
  (4, 207, 78, 6, [3], false),
  (4, 210, 79, 6, [3], false),
  (4, 213, 80, 6, [3], false),
  (4, 216, 31, 0, [3], false),
  (4, 219, 42, 0, [3], false),
  (4, 222, 43, 0, [3], false),
  (4, 225, 44, 0, [3], false),
  (4, 228, 45, 0, [3], false),
  (4, 231, 46, 0, [3], false),
  (4, 238, 3, 0, [3], false),
  (4, 257, 7, 0, [3], false),
  (4, 260, 8, 0, [3], false),
  (4, 276, 21, 0, [3], false),
  (4, 279, 10, 0, [3], false),
  (4, 285, 19, 0, [3], false),
  (4, 295, 30, 0, [3], false),
  (4, 342, 25, 0, [3], false),
  (4, 349, 28, 0, [3], false),
  (4, 352, 29, 0, [3], false),
  (4, 366, 32, 0, [3], false),
  (4, 369, 39, 0, [3], false),
  (4, 372, 47, 0, [3], false),
  (4, 385, 56, 0, [3], false),
  (4, 400, 60, 0, [3], false),
  (4, 422, 70, 0, [3], false),
  (4, 428, 68, 0, [3], false),
  (4, 435, 65, 0, [3], false),
  (4, 441, 69, 0, [3], false),
  (5, 7, 0, 0, [4], false),
  (5, 13, 4, 6, [4], false),
  (5, 17, 1, 0, [4], false),
  (5, 20, 2, 0, [4], false),
  (5, 23, 3, 0, [4], false)]
theorem zfs_3_ok : ∀ e ∈ zfs_3, ∀ ci ∈ e.2.2.2.2.1, zFok e ci := List.forall_mem_cons.mpr ⟨List.forall_mem_cons.mpr ⟨⟨_, rfl, by decide, rfl, _, Or.inl rfl, q1620, by decide⟩, fun _ h => nomatch h⟩, List.forall_mem_cons.mpr ⟨List.forall_mem_cons.mpr ⟨⟨_, rfl, by decide, rfl, _, Or.inl rfl, q1621, by decide⟩, fun _ h => nomatch h⟩, List.forall_mem_cons.mpr ⟨List.forall_mem_cons.mpr ⟨⟨_, rfl, by decide, rfl, _, Or.inl rfl, q1622, by decide⟩, fun _ h => nomatch h⟩, List.forall_mem_cons.mpr ⟨List.forall_mem_cons.mpr ⟨⟨_, rfl, by decide, rfl, _, Or.inl rfl, q1623, by decide⟩, fun _ h => nomatch h⟩, List.forall_mem_cons.mpr ⟨List.forall_mem_cons.mpr ⟨⟨_, rfl, by decide, rfl, _, Or.inl rfl, q1624, by decide⟩, fun _ h => nomatch h⟩, List.forall_mem_cons.mpr ⟨List.forall_mem_cons.mpr ⟨⟨_, rfl, by decide, rfl, _, Or.inl rfl, q1625, by decide⟩, fun _ h => nomatch h⟩, List.forall_mem_cons.mpr ⟨List.forall_mem_cons.mpr ⟨⟨_, rfl, by decide, rfl, _, Or.inl rfl, q1626, by decide⟩, fun _ h => nomatch h⟩, List.forall_mem_cons.mpr ⟨List.forall_mem_cons.mpr ⟨⟨_, rfl, by decide, rfl, _, Or.inl rfl, q1627, by decide⟩, fun _ h => nomatch h⟩, List.forall_mem_cons.mpr ⟨List.forall_mem_cons.mpr ⟨⟨_, rfl, by decide, rfl, _, Or.inl rfl, q1628, by decide⟩, fun _ h => nomatch h⟩, List.forall_mem_cons.mpr ⟨List.forall_mem_cons.mpr ⟨⟨_, rfl, by decide, rfl, _, Or.inl rfl, q1629, by decide⟩, fun _ h => nomatch h⟩, List.forall_mem_cons.mpr ⟨List.forall_mem_cons.mpr ⟨⟨_, rfl, by decide, rfl, _, Or.inl rfl, q1580, by decide⟩, fun _ h => nomatch h⟩, List.forall_mem_cons.mpr ⟨List.forall_mem_cons.mpr ⟨⟨_, rfl, by decide, rfl, _, Or.inl rfl, q1591, by decide⟩, fun _ h => nomatch h⟩, List.forall_mem_cons.mpr ⟨List.forall_mem_cons.mpr ⟨⟨_, rfl, by decide, rfl, _, Or.inl rfl, q1592, by decide⟩, fun _ h => nomatch h⟩, List.forall_mem_cons.mpr ⟨List.forall_mem_cons.mpr ⟨⟨_, rfl, by decide, rfl, _, Or.inl rfl, q1593, by decide⟩, fun _ h => nomatch h⟩, List.forall_mem_cons.mpr ⟨List.forall_mem_cons.mpr ⟨⟨_, rfl, by decide, rfl, _, Or.inl rfl, q1594, by decide⟩, fun _ h => nomatch h⟩, List.forall_mem_cons.mpr ⟨List.forall_mem_cons.mpr ⟨⟨_, rfl, by decide, rfl, _, Or.inl rfl, q1595, by decide⟩, fun _ h => nomatch h⟩, List.forall_mem_cons.mpr ⟨List.forall_mem_cons.mpr ⟨⟨_, rfl, by decide, rfl, _, Or.inl rfl, q1552, by decide⟩, fun _ h => nomatch h⟩, List.forall_mem_cons.mpr ⟨List.forall_mem_cons.mpr ⟨⟨_, rfl, by decide, rfl, _, Or.inl rfl, q1556, by decide⟩, fun _ h => nomatch h⟩, List.forall_mem_cons.mpr ⟨List.forall_mem_cons.mpr ⟨⟨_, rfl, by decide, rfl, _, Or.inl rfl, q1557, by decide⟩, fun _ h => nomatch h⟩, List.forall_mem_cons.mpr ⟨List.forall_mem_cons.mpr ⟨⟨_, rfl, by decide, rfl, _, Or.inl rfl, q1570, by decide⟩, fun _ h => nomatch h⟩, List.forall_mem_cons.mpr ⟨List.forall_mem_cons.mpr ⟨⟨_, rfl, by decide, rfl, _, Or.inl rfl, q1559, by decide⟩, fun _ h => nomatch h⟩, List.forall_mem_cons.mpr ⟨List.forall_mem_cons.mpr ⟨⟨_, rfl, by decide, rfl, _, Or.inl rfl, q1568, by decide⟩, fun _ h => nomatch h⟩, List.forall_mem_cons.mpr ⟨List.forall_mem_cons.mpr ⟨⟨_, rfl, by decide, rfl, _, Or.inl rfl, q1579, by decide⟩, fun _ h => nomatch h⟩, List.forall_mem_cons.mpr ⟨List.forall_mem_cons.mpr ⟨⟨_, rfl, by decide, rfl, _, Or.inl rfl, q1574, by decide⟩, fun _ h => nomatch h⟩, List.forall_mem_cons.mpr ⟨List.forall_mem_cons.mpr ⟨⟨_, rfl, by decide, rfl, _, Or.inl rfl, q1577, by decide⟩, fun _ h => nomatch h⟩, List.forall_mem_cons.mpr ⟨List.forall_mem_cons.mpr ⟨⟨_, rfl, by decide, rfl, _, Or.inl rfl, q1578, by decide⟩, fun _ h => nomatch h⟩, List.forall_mem_cons.mpr ⟨List.forall_mem_cons.mpr ⟨⟨_, rfl, by decide, rfl, _, Or.inl rfl, q1581, by decide⟩, fun _ h => nomatch h⟩, List.forall_mem_cons.mpr ⟨List.forall_mem_cons.mpr ⟨⟨_, rfl, by decide, rfl, _, Or.inl rfl, q1588, by decide⟩, fun _ h => nomatch h⟩, List.forall_mem_cons.mpr ⟨List.forall_mem_cons.mpr ⟨⟨_, rfl, by decide, rfl, _, Or.inl rfl, q1596, by decide⟩, fun _ h => nomatch h⟩, List.forall_mem_cons.mpr ⟨List.forall_mem_cons.mpr ⟨⟨_, rfl, by decide, rfl, _, Or.inl rfl, q1605, by decide⟩, fun _ h => nomatch h⟩, List.forall_mem_cons.mpr ⟨List.forall_mem_cons.mpr ⟨⟨_, rfl, by decide, rfl, _, Or.inl rfl, q1609, by decide⟩, fun _ h => nomatch h⟩, List.forall_mem_cons.mpr ⟨List.forall_mem_cons.mpr ⟨⟨_, rfl, by decide, rfl, _, Or.inl rfl, q1619, by decide⟩, fun _ h => nomatch h⟩, List.forall_mem_cons.mpr ⟨List.forall_mem_cons.mpr ⟨⟨_, rfl, by decide, rfl, _, Or.inl rfl, q1617, by decide⟩, fun _ h => nomatch h⟩, List.forall_mem_cons.mpr ⟨List.forall_mem_cons.mpr ⟨⟨_, rfl, by decide, rfl, _, Or.inl rfl, q1614, by decide⟩, fun _ h => nomatch h⟩, List.forall_mem_cons.mpr ⟨List.forall_mem_cons.mpr ⟨⟨_, rfl, by decide, rfl, _, Or.inl rfl, q1618, by decide⟩, fun _ h => nomatch h⟩, List.forall_mem_cons.mpr ⟨List.forall_mem_cons.mpr ⟨⟨_, rfl, by decide, rfl, _, Or.inl rfl, q363, by decide⟩, fun _ h => nomatch h⟩, List.forall_mem_cons.mpr ⟨List.forall_mem_cons.mpr ⟨⟨_, rfl, by decide, rfl, _, Or.inl rfl, q371, by decide⟩, fun _ h => nomatch h⟩, List.forall_mem_cons.mpr ⟨List.forall_mem_cons.mpr ⟨⟨_, rfl, by decide, rfl, _, Or.inl rfl, q365, by decide⟩, fun _ h => nomatch h⟩, List.forall_mem_cons.mpr ⟨List.forall_mem_cons.mpr ⟨⟨_, rfl, by decide, rfl, _, Or.inl rfl, q367, by decide⟩, fun _ h => nomatch h⟩, List.forall_mem_cons.mpr ⟨List.forall_mem_cons.mpr ⟨⟨_, rfl, by decide, rfl, _, Or.inl rfl, q369, by decide⟩, fun _ h => nomatch h⟩, fun _ h => nomatch h⟩⟩⟩⟩⟩⟩⟩⟩⟩⟩⟩⟩⟩⟩⟩⟩⟩⟩⟩⟩⟩⟩⟩⟩⟩⟩⟩⟩⟩⟩⟩⟩⟩⟩⟩⟩⟩⟩⟩⟩
def zfs_4 : List zF := [(5, 26, 5, 1, [4], false),
  (6, 7, 0, 0, [5], false),
  (6, 13, 1, 0, [5], false),
  (7, 9, 0, 0, [6], false),
  (7, 15, 8, 6, [6], false),
  (7, 19, 1, 0, [6], false),
  (7, 22, 2, 0, [6], false),
  (7, 25, 3, 0, [6], false),
  (7, 28, 4, 0, [6], false),
  (7, 31, 5, 0, [6], false),
  (7, 34, 6, 0, [6], false),
  (7, 37, 7, 0, [6], false),
  (7, 40, 2, 0, [4], true),
  (7, 49, 3, 0, [4], true),
  (7, 52, 10, 0, [6], false),
  (7, 59, 4, 6, [4], true),
  (7, 69, 9, 1, [6], false),
  (7, 73, 14, 0, [6], false),
  (8, 7, 0, 6, [7], false),
  (8, 13, 1, 0, [7], false),
  (8, 17, 2, 0, [7], false),
  (9, 14, 3, 6, [8], false),
  (9, 20, 4, 6, [8], false),
  (9, 23, 5, 6, [8], false),
  (9, 26, 0, 0, [8], false),
  (9, 30, 1, 0, [8], false),
  (9, 33, 2, 0, [8], false),
  (9, 46, 1, 6, [2], true),
  (10, 7, 6, 0, [9], false),
  (12, 7, 0, 0, [10], false),
  (12, 13, 0, 6, [2], true),
  (13, 7, 0, 0, [11], false),
  (13, 13, 1, 6, [2], true),
  (14, 7, 0, 0, [12], false),
  (15, 7, 0, 6, [13], false),
  (16, 12, 0, 6, [14], false),
  (16, 21, 1, 6, [14], false),
  (17, 9, 0, 6, [15, 16, 17], false),
  (19, 7, 1, 6, [16], false),
  (20, 7, 1, 0, [17], false)]
theorem zfs_4_ok : ∀ e ∈ zfs_4, ∀ ci ∈ e.2.2.2.2.1, zFok e ci := List.forall_mem_cons.mpr ⟨List.forall_mem_cons.mpr ⟨⟨_, rfl, by decide, rfl, _, Or.inl rfl, q374, by decide⟩, fun _ h => nomatch h⟩, List.forall_mem_cons.mpr ⟨List.forall_mem_cons.mpr ⟨⟨_, rfl, by decide, rfl, _, Or.inl rfl, q352, by decide⟩, fun _ h => nomatch h⟩, List.forall_mem_cons.mpr ⟨List.forall_mem_cons.mpr ⟨⟨_, rfl, by decide, rfl, _, Or.inl rfl, q353, by decide⟩, fun _ h => nomatch h⟩, List.forall_mem_cons.mpr ⟨List.forall_mem_cons.mpr ⟨⟨_, rfl, by decide, rfl, _, Or.inl rfl, q501, by decide⟩, fun _ h => nomatch h⟩, List.forall_mem_cons.mpr ⟨List.forall_mem_cons.mpr ⟨⟨_, rfl, by decide, rfl, _, Or.inl rfl, q518, by decide⟩, fun _ h => nomatch h⟩, List.forall_mem_cons.mpr ⟨List.forall_mem_cons.mpr ⟨⟨_, rfl, by decide, rfl, _, Or.inl rfl, q503, by decide⟩, fun _ h => nomatch h⟩, List.forall_mem_cons.mpr ⟨List.forall_mem_cons.mpr ⟨⟨_, rfl, by decide, rfl, _, Or.inl rfl, q505, by decide⟩, fun _ h => nomatch h⟩, List.forall_mem_cons.mpr ⟨List.forall_mem_cons.mpr ⟨⟨_, rfl, by decide, rfl, _, Or.inl rfl, q508, by decide⟩, fun _ h => nomatch h⟩, List.forall_mem_cons.mpr ⟨List.forall_mem_cons.mpr ⟨⟨_, rfl, by decide, rfl, _, Or.inl rfl, q510, by decide⟩, fun _ h => nomatch h⟩, List.forall_mem_cons.mpr ⟨List.forall_mem_cons.mpr ⟨⟨_, rfl, by decide, rfl, _, Or.inl rfl, q512, by decide⟩, fun _ h => nomatch h⟩, List.forall_mem_cons.mpr ⟨List.forall_mem_cons.mpr ⟨⟨_, rfl, by decide, rfl, _, Or.inl rfl, q514, by decide⟩, fun _ h => nomatch h⟩, List.forall_mem_cons.mpr ⟨List.forall_mem_cons.mpr ⟨⟨_, rfl, by decide, rfl, _, Or.inl rfl, q516, by decide⟩, fun _ h => nomatch h⟩, List.forall_mem_cons.mpr ⟨List.forall_mem_cons.mpr ⟨⟨_, rfl, by decide, rfl, _, Or.inl rfl, q368, by decide⟩, fun _ h => nomatch h⟩, List.forall_mem_cons.mpr ⟨List.forall_mem_cons.mpr ⟨⟨_, rfl, by decide, rfl, _, Or.inl rfl, q370, by decide⟩, fun _ h => nomatch h⟩, List.forall_mem_cons.mpr ⟨List.forall_mem_cons.mpr ⟨⟨_, rfl, by decide, rfl, _, Or.inl rfl, q522, by decide⟩, fun _ h => nomatch h⟩, List.forall_mem_cons.mpr ⟨List.forall_mem_cons.mpr ⟨⟨_, rfl, by decide, rfl, _, Or.inl rfl, q372, by decide⟩, fun _ h => nomatch h⟩, List.forall_mem_cons.mpr ⟨List.forall_mem_cons.mpr ⟨⟨_, rfl, by decide, rfl, _, Or.inl rfl, q520, by decide⟩, fun _ h => nomatch h⟩, List.forall_mem_cons.mpr ⟨List.forall_mem_cons.mpr ⟨⟨_, rfl, by decide, rfl, _, Or.inl rfl, q528, by decide⟩, fun _ h => nomatch h⟩, List.forall_mem_cons.mpr ⟨List.forall_mem_cons.mpr ⟨⟨_, rfl, by decide, rfl, _, Or.inl rfl, q578, by decide⟩, fun _ h => nomatch h⟩, List.forall_mem_cons.mpr ⟨List.forall_mem_cons.mpr ⟨⟨_, rfl, by decide, rfl, _, Or.inl rfl, q580, by decide⟩, fun _ h => nomatch h⟩, List.forall_mem_cons.mpr ⟨List.forall_mem_cons.mpr ⟨⟨_, rfl, by decide, rfl, _, Or.inl rfl, q582, by decide⟩, fun _ h => nomatch h⟩, List.forall_mem_cons.mpr ⟨List.forall_mem_cons.mpr ⟨⟨_, rfl, by decide, rfl, _, Or.inl rfl, q621, by decide⟩, fun _ h => nomatch h⟩, List.forall_mem_cons.mpr ⟨List.forall_mem_cons.mpr ⟨⟨_, rfl, by decide, rfl, _, Or.inl rfl, q623, by decide⟩, fun _ h => nomatch h⟩, List.forall_mem_cons.mpr ⟨List.forall_mem_cons.mpr ⟨⟨_, rfl, by decide, rfl, _, Or.inl rfl, q625, by decide⟩, fun _ h => nomatch h⟩, List.forall_mem_cons.mpr ⟨List.forall_mem_cons.mpr ⟨⟨_, rfl, by decide, rfl, _, Or.inl rfl, q615, by decide⟩, fun _ h => nomatch h⟩, List.forall_mem_cons.mpr ⟨List.forall_mem_cons.mpr ⟨⟨_, rfl, by decide, rfl, _, Or.inl rfl, q617, by decide⟩, fun _ h => nomatch h⟩, List.forall_mem_cons.mpr ⟨List.forall_mem_cons.mpr ⟨⟨_, rfl, by decide, rfl, _, Or.inl rfl, q619, by decide⟩, fun _ h => nomatch h⟩, List.forall_mem_cons.mpr ⟨List.forall_mem_cons.mpr ⟨⟨_, rfl, by decide, rfl, _, Or.inl rfl, q221, by decide⟩, fun _ h => nomatch h⟩, List.forall_mem_cons.mpr ⟨List.forall_mem_cons.mpr ⟨⟨_, rfl, by decide, rfl, _, Or.inl rfl, q822, by decide⟩, fun _ h => nomatch h⟩, List.forall_mem_cons.mpr ⟨List.forall_mem_cons.mpr ⟨⟨_, rfl, by decide, rfl, _, Or.inl rfl, q1084, by decide⟩, fun _ h => nomatch h⟩, List.forall_mem_cons.mpr ⟨List.forall_mem_cons.mpr ⟨⟨_, rfl, by decide, rfl, _, Or.inl rfl, q218, by decide⟩, fun _ h => nomatch h⟩, List.forall_mem_cons.mpr ⟨List.forall_mem_cons.mpr ⟨⟨_, rfl, by decide, rfl, _, Or.inl rfl, q1094, by decide⟩, fun _ h => nomatch h⟩, List.forall_mem_cons.mpr ⟨List.forall_mem_cons.mpr ⟨⟨_, rfl, by decide, rfl, _, Or.inl rfl, q220, by decide⟩, fun _ h => nomatch h⟩, List.forall_mem_cons.mpr ⟨List.forall_mem_cons.mpr ⟨⟨_, rfl, by decide, rfl, _, Or.inl rfl, q1104, by decide⟩, fun _ h => nomatch h⟩, List.forall_mem_cons.mpr ⟨List.forall_mem_cons.mpr ⟨⟨_, rfl, by decide, rfl, _, Or.inl rfl, q1114, by decide⟩, fun _ h => nomatch h⟩, List.forall_mem_cons.mpr ⟨List.forall_mem_cons.mpr ⟨⟨_, rfl, by decide, rfl, _, Or.inl rfl, q1129, by decide⟩, fun _ h => nomatch h⟩, List.forall_mem_cons.mpr ⟨List.forall_mem_cons.mpr ⟨⟨_, rfl, by decide, rfl, _, Or.inl rfl, q1130, by decide⟩, fun _ h => nomatch h⟩, List.forall_mem_cons.mpr ⟨List.forall_mem_cons.mpr ⟨⟨_, rfl, by decide, rfl, _, Or.inl rfl, q1152, by decide⟩, List.forall_mem_cons.mpr ⟨⟨_, rfl, by decide, rfl, _, Or.inl rfl, q1152, by decide⟩, List.forall_mem_cons.mpr ⟨⟨_, rfl, by decide, rfl, _, Or.inl rfl, q1152, by decide⟩, fun _ h => nomatch h⟩⟩⟩, List.forall_mem_cons.mpr ⟨List.forall_mem_cons.mpr ⟨⟨_, rfl, by decide, rfl, _, Or.inl rfl, q1171, by decide⟩, fun _ h => nomatch h⟩, List.forall_mem_cons.mpr ⟨List.forall_mem_cons.mpr ⟨⟨_, rfl, by decide, rfl, _, Or.inl rfl, q1182, by decide⟩, fun _ h => nomatch h⟩, fun _ h => nomatch h⟩⟩⟩⟩⟩⟩⟩⟩⟩⟩⟩⟩⟩⟩⟩⟩⟩⟩⟩⟩⟩⟩⟩⟩⟩⟩⟩⟩⟩⟩⟩⟩⟩⟩⟩⟩⟩⟩⟩⟩
def zfs_5 : List zF := [(22, 7, 0, 0, [18], false),
  (23, 9, 1, 6, [18], false),
  (23, 48, 2, 0, [18], false),
  (23, 63, 0, 0, [18], false),
  (29, 9, 0, 6, [19, 21], false),
  (29, 15, 1, 2, [19, 21], false),
  (29, 1048, 2, 1, [20], false),
  (33, 7, 0, 6, [9], false),
  (33, 17, 1, 6, [9], false),
  (33, 24, 2, 6, [9], false),
  (33, 31, 3, 6, [9], false),
  (33, 198, 4, 6, [9], false),
  (36, 15, 0, 6, [20], false),
  (36, 22, 1, 2, [20], false),
  (36, 79, 3, 0, [20], false)]
theorem zfs_5_ok : ∀ e ∈ zfs_5, ∀ ci ∈ e.2.2.2.2.1, zFok e ci := List.forall_mem_cons.mpr ⟨List.forall_mem_cons.mpr ⟨⟨_, rfl, by decide, rfl, _, Or.inl rfl, q160, by decide⟩, fun _ h => nomatch h⟩, List.forall_mem_cons.mpr ⟨List.forall_mem_cons.mpr ⟨⟨_, rfl, by decide, rfl, _, Or.inl rfl, q158, by decide⟩, fun _ h => nomatch h⟩, List.forall_mem_cons.mpr ⟨List.forall_mem_cons.mpr ⟨⟨_, rfl, by decide, rfl, _, Or.inl rfl, q159, by decide⟩, fun _ h => nomatch h⟩, List.forall_mem_cons.mpr ⟨List.forall_mem_cons.mpr ⟨⟨_, rfl, by decide, rfl, _, Or.inr q162, q161, fun h => absurd h (by decide)⟩, fun _ h => nomatch h⟩, List.forall_mem_cons.mpr ⟨List.forall_mem_cons.mpr ⟨⟨_, rfl, by decide, rfl, _, Or.inl rfl, q985, by decide⟩, List.forall_mem_cons.mpr ⟨⟨_, rfl, by decide, rfl, _, Or.inl rfl, q985, by decide⟩, fun _ h => nomatch h⟩⟩, List.forall_mem_cons.mpr ⟨List.forall_mem_cons.mpr ⟨⟨_, rfl, by decide, rfl, _, Or.inl rfl, q986, by decide⟩, List.forall_mem_cons.mpr ⟨⟨_, rfl, by decide, rfl, _, Or.inl rfl, q986, by decide⟩, fun _ h => nomatch h⟩⟩, List.forall_mem_cons.mpr ⟨List.forall_mem_cons.mpr ⟨⟨_, rfl, by decide, rfl, _, Or.inl rfl, q868, by decide⟩, fun _ h => nomatch h⟩, List.forall_mem_cons.mpr ⟨List.forall_mem_cons.mpr ⟨⟨_, rfl, by decide, rfl, _, Or.inl rfl, q826, by decide⟩, fun _ h => nomatch h⟩, List.forall_mem_cons.mpr ⟨List.forall_mem_cons.mpr ⟨⟨_, rfl, by decide, rfl, _, Or.inl rfl, q827, by decide⟩, fun _ h => nomatch h⟩, List.forall_mem_cons.mpr ⟨List.forall_mem_cons.mpr ⟨⟨_, rfl, by decide, rfl, _, Or.inl rfl, q828, by decide⟩, fun _ h => nomatch h⟩, List.forall_mem_cons.mpr ⟨List.forall_mem_cons.mpr ⟨⟨_, rfl, by decide, rfl, _, Or.inl rfl, q825, by decide⟩, fun _ h => nomatch h⟩, List.forall_mem_cons.mpr ⟨List.forall_mem_cons.mpr ⟨⟨_, rfl, by decide, rfl, _, Or.inl rfl, q824, by decide⟩, fun _ h => nomatch h⟩, List.forall_mem_cons.mpr ⟨List.forall_mem_cons.mpr ⟨⟨_, rfl, by decide, rfl, _, Or.inl rfl, q866, by decide⟩, fun _ h => nomatch h⟩, List.forall_mem_cons.mpr ⟨List.forall_mem_cons.mpr ⟨⟨_, rfl, by decide, rfl, _, Or.inl rfl, q867, by decide⟩, fun _ h => nomatch h⟩, List.forall_mem_cons.mpr ⟨List.forall_mem_cons.mpr ⟨⟨_, rfl, by decide, rfl, _, Or.inl rfl, q869, by decide⟩, fun _ h => nomatch h⟩, fun _ h => nomatch h⟩⟩⟩⟩⟩⟩⟩⟩⟩⟩⟩⟩⟩⟩⟩
def zfs : List zF := zfs_0 ++ (zfs_1 ++ (zfs_2 ++ (zfs_3 ++ (zfs_4 ++ (zfs_5)))))
theorem zfs_ok : ∀ e ∈ zfs, ∀ ci ∈ e.2.2.2.2.1, zFok e ci := List.forall_mem_append.mpr ⟨zfs_0_ok, List.forall_mem_append.mpr ⟨zfs_1_ok, List.forall_mem_append.mpr ⟨zfs_2_ok, List.forall_mem_append.mpr ⟨zfs_3_ok, List.forall_mem_append.mpr ⟨zfs_4_ok, zfs_5_ok⟩⟩⟩⟩⟩
/-- calls: class, index, kind (0 static, 1 virtual, 2 a constructor, 3 a nest mate's constructor), the linked name, number of parameters, targets (class of objects, method), owner of an inherited one -/
abbrev zK : Type := Nat × Nat × Nat × MethodName × Nat × List (Nat × Nat) × Option String
/-- private methods of the abstract AbstractStringBuilder, asked of a StringBuilder: their selects is derived -/
def zXW : List Cond := [Cond.selects "java/lang/StringBuilder" ⟨"java/lang/AbstractStringBuilder", "ensureCapacityInternal", "(I)V"⟩ ⟨"java/lang/AbstractStringBuilder", "ensureCapacityInternal", "(I)V"⟩, Cond.selects "java/lang/StringBuilder" ⟨"java/lang/AbstractStringBuilder", "newCapacity", "(I)I"⟩ ⟨"java/lang/AbstractStringBuilder", "newCapacity", "(I)I"⟩, Cond.selects "java/lang/StringBuilder" ⟨"java/lang/AbstractStringBuilder", "inflate", "()V"⟩ ⟨"java/lang/AbstractStringBuilder", "inflate", "()V"⟩]
def lwB : List Cond := zXW ++ lw_all
theorem zlB {w : Cond} (h : w ∈ lw_all) : w ∈ lwB := List.mem_append_right _ h
theorem zxw_0 : Cond.selects "java/lang/StringBuilder" ⟨"java/lang/AbstractStringBuilder", "ensureCapacityInternal", "(I)V"⟩ ⟨"java/lang/AbstractStringBuilder", "ensureCapacityInternal", "(I)V"⟩ ∈ lwB := List.mem_append_left _ (List.mem_of_getElem? (i := 0) rfl)
theorem zxw_1 : Cond.selects "java/lang/StringBuilder" ⟨"java/lang/AbstractStringBuilder", "newCapacity", "(I)I"⟩ ⟨"java/lang/AbstractStringBuilder", "newCapacity", "(I)I"⟩ ∈ lwB := List.mem_append_left _ (List.mem_of_getElem? (i := 1) rfl)
theorem zxw_2 : Cond.selects "java/lang/StringBuilder" ⟨"java/lang/AbstractStringBuilder", "inflate", "()V"⟩ ⟨"java/lang/AbstractStringBuilder", "inflate", "()V"⟩ ∈ lwB := List.mem_append_left _ (List.mem_of_getElem? (i := 2) rfl)
def zKok (e : zK) : Prop := (parseMethodDescriptor e.2.2.2.1.desc).map (fun d => d.parameters.length) = some e.2.2.2.2.1 ∧ (if e.2.2.1 = 3 then Cond.methodLinkNest (zcn e.1) e.2.1 e.2.2.2.1 "SecretBuyers" ∈ lw_tbl else Cond.methodLink (zcn e.1) e.2.1 e.2.2.2.1 ∈ lw_all) ∧ (e.2.2.1 = 0 → ∃ y m, e.2.2.2.2.2.1 = [(0, y)] ∧ zms[y]? = some m ∧ m.1 = e.2.2.2.1 ∧ Cond.static e.2.2.2.1 ∈ lw_all) ∧ (e.2.2.1 = 2 ∨ e.2.2.1 = 3 → e.2.2.2.1.name = "<init>" ∧ ∃ y m, e.2.2.2.2.2.1 = [(0, y)] ∧ zms[y]? = some m ∧ m.1 = e.2.2.2.1 ∧ m.2.2.2.1 = none ∧ Cond.instanceMethod e.2.2.2.1 ∈ lw_all) ∧ (e.2.2.1 = 4 → ∃ y m, e.2.2.2.2.2.1 = [(0, y)] ∧ zms[y]? = some m ∧ m.1 = e.2.2.2.1 ∧ Cond.instanceMethod e.2.2.2.1 ∈ lw_all ∧ Cond.sameMethod e.2.2.2.1.cls e.2.2.2.1.cls e.2.2.2.1.name e.2.2.2.1.desc ∈ lw_all ∧ Cond.superclass (zcn e.1) e.2.2.2.1.cls ∈ lw_all ∧ e.2.2.2.1.name ≠ "<init>") ∧ (e.2.2.1 = 1 → ∀ t ∈ e.2.2.2.2.2.1, ∃ q m, zcl[t.1]? = some q ∧ zms[t.2]? = some m ∧ Cond.instanceMethod m.1 ∈ lw_all ∧ Cond.selects q.1 e.2.2.2.1 m.1 ∈ lwB ∧ match e.2.2.2.2.2.2 with | none => m.1 = e.2.2.2.1 | some ow => Cond.sameMethod e.2.2.2.1.cls ow e.2.2.2.1.name e.2.2.2.1.desc ∈ lw_all ∧ (ow ≠ "java/lang/invoke/MethodHandle" ∧ ow ≠ "java/lang/invoke/VarHandle") ∧ (Cond.declares ⟨ow, e.2.2.2.1.name, e.2.2.2.1.desc⟩ ∈ lw_tbl ∨ ∃ m2 ∈ zms, m2.1 = ⟨ow, e.2.2.2.1.name, e.2.2.2.1.desc⟩ ∧ Cond.instanceMethod m2.1 ∈ lw_all ∧ m2.2.2.2.2.2.2.1 = []))
def zks_0 : List zK := [(0, 7, 1, ⟨"SecretBuyers", "look", "(II)I"⟩, 2, [(0, 49)], none),
  (0, 15, 1, ⟨"SecretBuyers", "fair", "(I)I"⟩, 1, [(0, 52)], none),
  (0, 19, 1, ⟨"SecretBuyers", "lean", "(I)I"⟩, 1, [(0, 53)], none),
  (0, 22, 1, ⟨"SecretBuyers", "mean", "(III)I"⟩, 3, [(0, 54)], none),
  (0, 26, 2, ⟨"SecretBuyers", "<init>", "()V"⟩, 0, [(0, 4)], none),
  (0, 29, 2, ⟨"SecretBuyersModel", "<init>", "()V"⟩, 0, [(0, 81)], none),
  (0, 30, 1, ⟨"SecretBuyers", "days", "(I)I"⟩, 1, [(0, 5)], none),
  (0, 33, 1, ⟨"SecretBuyersModel", "days", "(I)I"⟩, 1, [(3, 108)], none),
  (0, 34, 1, ⟨"SecretBuyers", "view", "(I)Z"⟩, 1, [(0, 8)], none),
  (0, 38, 1, ⟨"SecretBuyersModel", "view", "(I)Z"⟩, 1, [(3, 110)], none),
  (0, 39, 1, ⟨"SecretBuyers", "shop", "(IIIIIZ)I"⟩, 6, [(0, 9)], none),
  (0, 43, 1, ⟨"SecretBuyersModel", "shop", "(IIIIIZ)I"⟩, 6, [(3, 111)], none),
  (0, 44, 1, ⟨"SecretBuyers", "buyer", "(II)I"⟩, 2, [(0, 10)], none),
  (0, 47, 1, ⟨"SecretBuyersModel", "buyer", "(II)I"⟩, 2, [(3, 113)], none),
  (0, 48, 1, ⟨"SecretBuyers", "terms", "(III)Z"⟩, 3, [(0, 11)], none),
  (0, 52, 1, ⟨"SecretBuyersModel", "terms", "(III)Z"⟩, 3, [(3, 114)], none),
  (0, 53, 1, ⟨"SecretBuyers", "rest", "(II)Z"⟩, 2, [(0, 12)], none),
  (0, 57, 1, ⟨"SecretBuyersModel", "rest", "(II)Z"⟩, 2, [(3, 115)], none),
  (0, 58, 1, ⟨"SecretBuyers", "visit", "(IIIIIII)I"⟩, 7, [(0, 13)], none),
  (0, 62, 1, ⟨"SecretBuyersModel", "visit", "(IIIIIII)I"⟩, 7, [(3, 116)], none),
  (0, 63, 1, ⟨"SecretBuyers", "appeal", "(II)Z"⟩, 2, [(0, 16)], none),
  (0, 66, 1, ⟨"SecretBuyersModel", "appeal", "(II)Z"⟩, 2, [(3, 120)], none),
  (0, 69, 1, ⟨"SecretBuyers", "feed", "(JJJ)I"⟩, 3, [(0, 18)], none),
  (0, 73, 1, ⟨"SecretBuyersModel", "feed", "(JJJ)I"⟩, 3, [(3, 79)], none),
  (0, 74, 1, ⟨"SecretBuyers", "brief", "(II)I"⟩, 2, [(0, 19)], none),
  (0, 77, 1, ⟨"SecretBuyersModel", "brief", "(II)I"⟩, 2, [(3, 82)], none),
  (0, 78, 0, ⟨"SecretBuyersLaw", "look", "(LSecretBuyers;II[J)I"⟩, 4, [(0, 0)], none),
  (0, 83, 1, ⟨"SecretBuyersModel", "look", "(II)I"⟩, 2, [(3, 121)], none),
  (0, 84, 1, ⟨"SecretBuyersModel", "thrown", "()I"⟩, 0, [(3, 78)], none),
  (0, 88, 0, ⟨"SecretBuyersLaw", "fair", "(LSecretBuyers;I[J)I"⟩, 3, [(0, 1)], none),
  (0, 91, 1, ⟨"SecretBuyersModel", "fair", "(I)I"⟩, 1, [(3, 144)], none),
  (0, 92, 1, ⟨"SecretBuyers", "fewest", "(II)I"⟩, 2, [(0, 21)], none),
  (0, 95, 1, ⟨"SecretBuyersModel", "fewest", "(II)I"⟩, 2, [(3, 141)], none),
  (0, 96, 1, ⟨"SecretBuyers", "set", "(III)I"⟩, 3, [(0, 30)], none),
  (0, 99, 1, ⟨"SecretBuyersModel", "set", "(III)I"⟩, 3, [(3, 143)], none),
  (0, 100, 0, ⟨"SecretBuyersLaw", "lean", "(LSecretBuyers;I[J)I"⟩, 3, [(0, 2)], none),
  (0, 102, 1, ⟨"SecretBuyersModel", "lean", "(I)I"⟩, 1, [(3, 148)], none),
  (0, 103, 1, ⟨"SecretBuyers", "meetings", "(II)I"⟩, 2, [(0, 31)], none),
  (0, 106, 1, ⟨"SecretBuyersModel", "meetings", "(II)I"⟩, 2, [(3, 149)], none),
  (0, 107, 0, ⟨"SecretBuyersLaw", "mean", "(LSecretBuyers;III[J)I"⟩, 5, [(0, 3)], none)]
set_option maxRecDepth 100000 in
theorem zks_0_ok : ∀ e ∈ zks_0, zKok e := List.forall_mem_cons.mpr ⟨⟨by decide +kernel, q1461, fun h => absurd h (by decide), fun h => absurd h (by decide), fun h => absurd h (by decide), fun _ => List.forall_mem_cons.mpr ⟨⟨_, _, rfl, rfl, q1462, zlB q1463, rfl⟩, fun _ h => nomatch h⟩⟩, List.forall_mem_cons.mpr ⟨⟨by decide +kernel, q1497, fun h => absurd h (by decide), fun h => absurd h (by decide), fun h => absurd h (by decide), fun _ => List.forall_mem_cons.mpr ⟨⟨_, _, rfl, rfl, q1498, zlB q1499, rfl⟩, fun _ h => nomatch h⟩⟩, List.forall_mem_cons.mpr ⟨⟨by decide +kernel, q1504, fun h => absurd h (by decide), fun h => absurd h (by decide), fun h => absurd h (by decide), fun _ => List.forall_mem_cons.mpr ⟨⟨_, _, rfl, rfl, q1505, zlB q1506, rfl⟩, fun _ h => nomatch h⟩⟩, List.forall_mem_cons.mpr ⟨⟨by decide +kernel, q1511, fun h => absurd h (by decide), fun h => absurd h (by decide), fun h => absurd h (by decide), fun _ => List.forall_mem_cons.mpr ⟨⟨_, _, rfl, rfl, q1512, zlB q1513, rfl⟩, fun _ h => nomatch h⟩⟩, List.forall_mem_cons.mpr ⟨⟨by decide +kernel, q136, fun h => absurd h (by decide), fun _ => ⟨rfl, _, _, rfl, rfl, rfl, rfl, q137⟩, fun h => absurd h (by decide), fun h => absurd h (by decide)⟩, List.forall_mem_cons.mpr ⟨⟨by decide +kernel, q1529, fun h => absurd h (by decide), fun _ => ⟨rfl, _, _, rfl, rfl, rfl, rfl, q1530⟩, fun h => absurd h (by decide), fun h => absurd h (by decide)⟩, List.forall_mem_cons.mpr ⟨⟨by decide +kernel, q322, fun h => absurd h (by decide), fun h => absurd h (by decide), fun h => absurd h (by decide), fun _ => List.forall_mem_cons.mpr ⟨⟨_, _, rfl, rfl, q323, zlB q324, rfl⟩, fun _ h => nomatch h⟩⟩, List.forall_mem_cons.mpr ⟨⟨by decide +kernel, q1897, fun h => absurd h (by decide), fun h => absurd h (by decide), fun h => absurd h (by decide), fun _ => List.forall_mem_cons.mpr ⟨⟨_, _, rfl, rfl, q1898, zlB q1899, rfl⟩, fun _ h => nomatch h⟩⟩, List.forall_mem_cons.mpr ⟨⟨by decide +kernel, q333, fun h => absurd h (by decide), fun h => absurd h (by decide), fun h => absurd h (by decide), fun _ => List.forall_mem_cons.mpr ⟨⟨_, _, rfl, rfl, q334, zlB q335, rfl⟩, fun _ h => nomatch h⟩⟩, List.forall_mem_cons.mpr ⟨⟨by decide +kernel, q1904, fun h => absurd h (by decide), fun h => absurd h (by decide), fun h => absurd h (by decide), fun _ => List.forall_mem_cons.mpr ⟨⟨_, _, rfl, rfl, q1905, zlB q1906, rfl⟩, fun _ h => nomatch h⟩⟩, List.forall_mem_cons.mpr ⟨⟨by decide +kernel, q337, fun h => absurd h (by decide), fun h => absurd h (by decide), fun h => absurd h (by decide), fun _ => List.forall_mem_cons.mpr ⟨⟨_, _, rfl, rfl, q338, zlB q339, rfl⟩, fun _ h => nomatch h⟩⟩, List.forall_mem_cons.mpr ⟨⟨by decide +kernel, q1908, fun h => absurd h (by decide), fun h => absurd h (by decide), fun h => absurd h (by decide), fun _ => List.forall_mem_cons.mpr ⟨⟨_, _, rfl, rfl, q1909, zlB q1910, rfl⟩, fun _ h => nomatch h⟩⟩, List.forall_mem_cons.mpr ⟨⟨by decide +kernel, q458, fun h => absurd h (by decide), fun h => absurd h (by decide), fun h => absurd h (by decide), fun _ => List.forall_mem_cons.mpr ⟨⟨_, _, rfl, rfl, q459, zlB q460, rfl⟩, fun _ h => nomatch h⟩⟩, List.forall_mem_cons.mpr ⟨⟨by decide +kernel, q1915, fun h => absurd h (by decide), fun h => absurd h (by decide), fun h => absurd h (by decide), fun _ => List.forall_mem_cons.mpr ⟨⟨_, _, rfl, rfl, q1916, zlB q1917, rfl⟩, fun _ h => nomatch h⟩⟩, List.forall_mem_cons.mpr ⟨⟨by decide +kernel, q462, fun h => absurd h (by decide), fun h => absurd h (by decide), fun h => absurd h (by decide), fun _ => List.forall_mem_cons.mpr ⟨⟨_, _, rfl, rfl, q463, zlB q464, rfl⟩, fun _ h => nomatch h⟩⟩, List.forall_mem_cons.mpr ⟨⟨by decide +kernel, q1919, fun h => absurd h (by decide), fun h => absurd h (by decide), fun h => absurd h (by decide), fun _ => List.forall_mem_cons.mpr ⟨⟨_, _, rfl, rfl, q1920, zlB q1921, rfl⟩, fun _ h => nomatch h⟩⟩, List.forall_mem_cons.mpr ⟨⟨by decide +kernel, q466, fun h => absurd h (by decide), fun h => absurd h (by decide), fun h => absurd h (by decide), fun _ => List.forall_mem_cons.mpr ⟨⟨_, _, rfl, rfl, q467, zlB q468, rfl⟩, fun _ h => nomatch h⟩⟩, List.forall_mem_cons.mpr ⟨⟨by decide +kernel, q1923, fun h => absurd h (by decide), fun h => absurd h (by decide), fun h => absurd h (by decide), fun _ => List.forall_mem_cons.mpr ⟨⟨_, _, rfl, rfl, q1924, zlB q1925, rfl⟩, fun _ h => nomatch h⟩⟩, List.forall_mem_cons.mpr ⟨⟨by decide +kernel, q470, fun h => absurd h (by decide), fun h => absurd h (by decide), fun h => absurd h (by decide), fun _ => List.forall_mem_cons.mpr ⟨⟨_, _, rfl, rfl, q471, zlB q472, rfl⟩, fun _ h => nomatch h⟩⟩, List.forall_mem_cons.mpr ⟨⟨by decide +kernel, q1927, fun h => absurd h (by decide), fun h => absurd h (by decide), fun h => absurd h (by decide), fun _ => List.forall_mem_cons.mpr ⟨⟨_, _, rfl, rfl, q1928, zlB q1929, rfl⟩, fun _ h => nomatch h⟩⟩, List.forall_mem_cons.mpr ⟨⟨by decide +kernel, q564, fun h => absurd h (by decide), fun h => absurd h (by decide), fun h => absurd h (by decide), fun _ => List.forall_mem_cons.mpr ⟨⟨_, _, rfl, rfl, q565, zlB q566, rfl⟩, fun _ h => nomatch h⟩⟩, List.forall_mem_cons.mpr ⟨⟨by decide +kernel, q1943, fun h => absurd h (by decide), fun h => absurd h (by decide), fun h => absurd h (by decide), fun _ => List.forall_mem_cons.mpr ⟨⟨_, _, rfl, rfl, q1944, zlB q1945, rfl⟩, fun _ h => nomatch h⟩⟩, List.forall_mem_cons.mpr ⟨⟨by decide +kernel, q591, fun h => absurd h (by decide), fun h => absurd h (by decide), fun h => absurd h (by decide), fun _ => List.forall_mem_cons.mpr ⟨⟨_, _, rfl, rfl, q592, zlB q593, rfl⟩, fun _ h => nomatch h⟩⟩, List.forall_mem_cons.mpr ⟨⟨by decide +kernel, q1519, fun h => absurd h (by decide), fun h => absurd h (by decide), fun h => absurd h (by decide), fun _ => List.forall_mem_cons.mpr ⟨⟨_, _, rfl, rfl, q1520, zlB q1521, rfl⟩, fun _ h => nomatch h⟩⟩, List.forall_mem_cons.mpr ⟨⟨by decide +kernel, q595, fun h => absurd h (by decide), fun h => absurd h (by decide), fun h => absurd h (by decide), fun _ => List.forall_mem_cons.mpr ⟨⟨_, _, rfl, rfl, q596, zlB q597, rfl⟩, fun _ h => nomatch h⟩⟩, List.forall_mem_cons.mpr ⟨⟨by decide +kernel, q1794, fun h => absurd h (by decide), fun h => absurd h (by decide), fun h => absurd h (by decide), fun _ => List.forall_mem_cons.mpr ⟨⟨_, _, rfl, rfl, q1795, zlB q1796, rfl⟩, fun _ h => nomatch h⟩⟩, List.forall_mem_cons.mpr ⟨⟨by decide +kernel, q1457, fun _ => ⟨_, _, rfl, rfl, rfl, q1458⟩, fun h => absurd h (by decide), fun h => absurd h (by decide), fun h => absurd h (by decide)⟩, List.forall_mem_cons.mpr ⟨⟨by decide +kernel, q1947, fun h => absurd h (by decide), fun h => absurd h (by decide), fun h => absurd h (by decide), fun _ => List.forall_mem_cons.mpr ⟨⟨_, _, rfl, rfl, q1948, zlB q1949, rfl⟩, fun _ h => nomatch h⟩⟩, List.forall_mem_cons.mpr ⟨⟨by decide +kernel, q1515, fun h => absurd h (by decide), fun h => absurd h (by decide), fun h => absurd h (by decide), fun _ => List.forall_mem_cons.mpr ⟨⟨_, _, rfl, rfl, q1516, zlB q1517, rfl⟩, fun _ h => nomatch h⟩⟩, List.forall_mem_cons.mpr ⟨⟨by decide +kernel, q1494, fun _ => ⟨_, _, rfl, rfl, rfl, q1495⟩, fun h => absurd h (by decide), fun h => absurd h (by decide), fun h => absurd h (by decide)⟩, List.forall_mem_cons.mpr ⟨⟨by decide +kernel, q2034, fun h => absurd h (by decide), fun h => absurd h (by decide), fun h => absurd h (by decide), fun _ => List.forall_mem_cons.mpr ⟨⟨_, _, rfl, rfl, q2035, zlB q2036, rfl⟩, fun _ h => nomatch h⟩⟩, List.forall_mem_cons.mpr ⟨⟨by decide +kernel, q1187, fun h => absurd h (by decide), fun h => absurd h (by decide), fun h => absurd h (by decide), fun _ => List.forall_mem_cons.mpr ⟨⟨_, _, rfl, rfl, q1188, zlB q1189, rfl⟩, fun _ h => nomatch h⟩⟩, List.forall_mem_cons.mpr ⟨⟨by decide +kernel, q2023, fun h => absurd h (by decide), fun h => absurd h (by decide), fun h => absurd h (by decide), fun _ => List.forall_mem_cons.mpr ⟨⟨_, _, rfl, rfl, q2024, zlB q2025, rfl⟩, fun _ h => nomatch h⟩⟩, List.forall_mem_cons.mpr ⟨⟨by decide +kernel, q1370, fun h => absurd h (by decide), fun h => absurd h (by decide), fun h => absurd h (by decide), fun _ => List.forall_mem_cons.mpr ⟨⟨_, _, rfl, rfl, q1371, zlB q1372, rfl⟩, fun _ h => nomatch h⟩⟩, List.forall_mem_cons.mpr ⟨⟨by decide +kernel, q2030, fun h => absurd h (by decide), fun h => absurd h (by decide), fun h => absurd h (by decide), fun _ => List.forall_mem_cons.mpr ⟨⟨_, _, rfl, rfl, q2031, zlB q2032, rfl⟩, fun _ h => nomatch h⟩⟩, List.forall_mem_cons.mpr ⟨⟨by decide +kernel, q1501, fun _ => ⟨_, _, rfl, rfl, rfl, q1502⟩, fun h => absurd h (by decide), fun h => absurd h (by decide), fun h => absurd h (by decide)⟩, List.forall_mem_cons.mpr ⟨⟨by decide +kernel, q2050, fun h => absurd h (by decide), fun h => absurd h (by decide), fun h => absurd h (by decide), fun _ => List.forall_mem_cons.mpr ⟨⟨_, _, rfl, rfl, q2051, zlB q2052, rfl⟩, fun _ h => nomatch h⟩⟩, List.forall_mem_cons.mpr ⟨⟨by decide +kernel, q1374, fun h => absurd h (by decide), fun h => absurd h (by decide), fun h => absurd h (by decide), fun _ => List.forall_mem_cons.mpr ⟨⟨_, _, rfl, rfl, q1375, zlB q1376, rfl⟩, fun _ h => nomatch h⟩⟩, List.forall_mem_cons.mpr ⟨⟨by decide +kernel, q2054, fun h => absurd h (by decide), fun h => absurd h (by decide), fun h => absurd h (by decide), fun _ => List.forall_mem_cons.mpr ⟨⟨_, _, rfl, rfl, q2055, zlB q2056, rfl⟩, fun _ h => nomatch h⟩⟩, List.forall_mem_cons.mpr ⟨⟨by decide +kernel, q1508, fun _ => ⟨_, _, rfl, rfl, rfl, q1509⟩, fun h => absurd h (by decide), fun h => absurd h (by decide), fun h => absurd h (by decide)⟩, fun _ h => nomatch h⟩⟩⟩⟩⟩⟩⟩⟩⟩⟩⟩⟩⟩⟩⟩⟩⟩⟩⟩⟩⟩⟩⟩⟩⟩⟩⟩⟩⟩⟩⟩⟩⟩⟩⟩⟩⟩⟩⟩⟩
def zks_1 : List zK := [(0, 110, 1, ⟨"SecretBuyersModel", "mean", "(III)I"⟩, 3, [(3, 150)], none),
  (0, 111, 1, ⟨"SecretBuyers", "doubt", "(III)I"⟩, 3, [(0, 32)], none),
  (0, 114, 1, ⟨"SecretBuyersModel", "doubt", "(III)I"⟩, 3, [(3, 154)], none),
  (0, 115, 1, ⟨"SecretBuyers", "apart", "(IIII)I"⟩, 4, [(0, 36)], none),
  (0, 119, 1, ⟨"SecretBuyersModel", "apart", "(IIII)I"⟩, 4, [(3, 156)], none),
  (0, 120, 1, ⟨"SecretBuyers", "order", "(IIII)I"⟩, 4, [(0, 37)], none),
  (0, 123, 1, ⟨"SecretBuyersModel", "order", "(IIII)I"⟩, 4, [(3, 159)], none),
  (0, 124, 1, ⟨"SecretBuyers", "enough", "(IIII)I"⟩, 4, [(0, 39)], none),
  (0, 127, 1, ⟨"SecretBuyersModel", "enough", "(IIII)I"⟩, 4, [(3, 160)], none),
  (0, 128, 1, ⟨"SecretBuyers", "may", "(III)I"⟩, 3, [(0, 40)], none),
  (0, 131, 1, ⟨"SecretBuyersModel", "may", "(III)I"⟩, 3, [(3, 161)], none),
  (0, 132, 1, ⟨"SecretBuyers", "given", "(III)I"⟩, 3, [(0, 42)], none),
  (0, 135, 1, ⟨"SecretBuyersModel", "given", "(III)I"⟩, 3, [(3, 163)], none),
  (0, 136, 1, ⟨"SecretBuyers", "drawn", "(III)I"⟩, 3, [(0, 44)], none),
  (0, 139, 1, ⟨"SecretBuyersModel", "drawn", "(III)I"⟩, 3, [(3, 167)], none),
  (0, 140, 1, ⟨"SecretBuyers", "sway", "(II)I"⟩, 2, [(0, 46)], none),
  (0, 143, 1, ⟨"SecretBuyersModel", "sway", "(II)I"⟩, 2, [(3, 168)], none),
  (0, 144, 1, ⟨"SecretBuyers", "sum", "(IIII)I"⟩, 4, [(0, 47)], none),
  (0, 147, 1, ⟨"SecretBuyersModel", "sum", "(IIII)I"⟩, 4, [(3, 169)], none),
  (0, 148, 1, ⟨"SecretBuyers", "count", "(I)I"⟩, 1, [(0, 48)], none),
  (0, 151, 1, ⟨"SecretBuyersModel", "count", "(I)I"⟩, 1, [(3, 170)], none),
  (1, 30, 2, ⟨"java/util/ArrayList", "<init>", "(I)V"⟩, 1, [(0, 213)], none),
  (1, 55, 3, ⟨"SecretBuyers$Reader", "<init>", "()V"⟩, 0, [(0, 55)], none),
  (1, 62, 3, ⟨"SecretBuyers$Ask", "<init>", "()V"⟩, 0, [(0, 76)], none),
  (1, 109, 2, ⟨"java/util/NoSuchElementException", "<init>", "()V"⟩, 0, [(0, 303)], none),
  (1, 113, 0, ⟨"SecretBuyers", "in", "(III)Z"⟩, 3, [(0, 6)], none),
  (1, 117, 1, ⟨"SecretBuyers", "changed", "()Z"⟩, 0, [(0, 7)], none),
  (1, 121, 1, ⟨"java/util/ArrayList", "size", "()I"⟩, 0, [(18, 214)], none),
  (1, 127, 2, ⟨"SecretBuyers$Place", "<init>", "(II)V"⟩, 2, [(0, 172)], none),
  (1, 130, 2, ⟨"SecretBuyers$Shop", "<init>", "(ILSecretBuyers$Place;IIIZ)V"⟩, 6, [(0, 171)], none),
  (1, 133, 1, ⟨"java/util/ArrayList", "add", "(Ljava/lang/Object;)Z"⟩, 1, [(18, 215)], none),
  (1, 137, 1, ⟨"SecretBuyers", "isShop", "(I)Z"⟩, 1, [(0, 14)], none),
  (1, 141, 1, ⟨"SecretBuyers", "isBuyer", "(I)Z"⟩, 1, [(0, 15)], none),
  (1, 144, 1, ⟨"java/util/ArrayList", "get", "(I)Ljava/lang/Object;"⟩, 1, [(18, 219)], none),
  (1, 154, 2, ⟨"SecretBuyers$Visit", "<init>", "(ILSecretBuyers$Shop;IIIIIII)V"⟩, 9, [(0, 174)], none),
  (1, 157, 1, ⟨"SecretBuyers", "isVisit", "(I)Z"⟩, 1, [(0, 17)], none),
  (1, 172, 2, ⟨"SecretBuyers$Appeal", "<init>", "(LSecretBuyers$Visit;II)V"⟩, 3, [(0, 181)], none),
  (1, 178, 0, ⟨"SecretBuyers", "isDay", "(I)Z"⟩, 1, [(0, 20)], none),
  (1, 181, 1, ⟨"SecretBuyers$Reader", "begin", "([BIIII)V"⟩, 5, [(1, 56)], none),
  (1, 185, 1, ⟨"SecretBuyers$Reader", "whole", "()LSecretBuyers$Brief;"⟩, 0, [(1, 61)], none)]
set_option maxRecDepth 100000 in
theorem zks_1_ok : ∀ e ∈ zks_1, zKok e := List.forall_mem_cons.mpr ⟨⟨by decide +kernel, q2058, fun h => absurd h (by decide), fun h => absurd h (by decide), fun h => absurd h (by decide), fun _ => List.forall_mem_cons.mpr ⟨⟨_, _, rfl, rfl, q2059, zlB q2060, rfl⟩, fun _ h => nomatch h⟩⟩, List.forall_mem_cons.mpr ⟨⟨by decide +kernel, q1378, fun h => absurd h (by decide), fun h => absurd h (by decide), fun h => absurd h (by decide), fun _ => List.forall_mem_cons.mpr ⟨⟨_, _, rfl, rfl, q1379, zlB q1380, rfl⟩, fun _ h => nomatch h⟩⟩, List.forall_mem_cons.mpr ⟨⟨by decide +kernel, q2073, fun h => absurd h (by decide), fun h => absurd h (by decide), fun h => absurd h (by decide), fun _ => List.forall_mem_cons.mpr ⟨⟨_, _, rfl, rfl, q2074, zlB q2075, rfl⟩, fun _ h => nomatch h⟩⟩, List.forall_mem_cons.mpr ⟨⟨by decide +kernel, q1394, fun h => absurd h (by decide), fun h => absurd h (by decide), fun h => absurd h (by decide), fun _ => List.forall_mem_cons.mpr ⟨⟨_, _, rfl, rfl, q1395, zlB q1396, rfl⟩, fun _ h => nomatch h⟩⟩, List.forall_mem_cons.mpr ⟨⟨by decide +kernel, q2081, fun h => absurd h (by decide), fun h => absurd h (by decide), fun h => absurd h (by decide), fun _ => List.forall_mem_cons.mpr ⟨⟨_, _, rfl, rfl, q2082, zlB q2083, rfl⟩, fun _ h => nomatch h⟩⟩, List.forall_mem_cons.mpr ⟨⟨by decide +kernel, q1399, fun h => absurd h (by decide), fun h => absurd h (by decide), fun h => absurd h (by decide), fun _ => List.forall_mem_cons.mpr ⟨⟨_, _, rfl, rfl, q1400, zlB q1401, rfl⟩, fun _ h => nomatch h⟩⟩, List.forall_mem_cons.mpr ⟨⟨by decide +kernel, q2093, fun h => absurd h (by decide), fun h => absurd h (by decide), fun h => absurd h (by decide), fun _ => List.forall_mem_cons.mpr ⟨⟨_, _, rfl, rfl, q2094, zlB q2095, rfl⟩, fun _ h => nomatch h⟩⟩, List.forall_mem_cons.mpr ⟨⟨by decide +kernel, q1409, fun h => absurd h (by decide), fun h => absurd h (by decide), fun h => absurd h (by decide), fun _ => List.forall_mem_cons.mpr ⟨⟨_, _, rfl, rfl, q1410, zlB q1411, rfl⟩, fun _ h => nomatch h⟩⟩, List.forall_mem_cons.mpr ⟨⟨by decide +kernel, q2097, fun h => absurd h (by decide), fun h => absurd h (by decide), fun h => absurd h (by decide), fun _ => List.forall_mem_cons.mpr ⟨⟨_, _, rfl, rfl, q2098, zlB q2099, rfl⟩, fun _ h => nomatch h⟩⟩, List.forall_mem_cons.mpr ⟨⟨by decide +kernel, q1413, fun h => absurd h (by decide), fun h => absurd h (by decide), fun h => absurd h (by decide), fun _ => List.forall_mem_cons.mpr ⟨⟨_, _, rfl, rfl, q1414, zlB q1415, rfl⟩, fun _ h => nomatch h⟩⟩, List.forall_mem_cons.mpr ⟨⟨by decide +kernel, q2101, fun h => absurd h (by decide), fun h => absurd h (by decide), fun h => absurd h (by decide), fun _ => List.forall_mem_cons.mpr ⟨⟨_, _, rfl, rfl, q2102, zlB q2103, rfl⟩, fun _ h => nomatch h⟩⟩, List.forall_mem_cons.mpr ⟨⟨by decide +kernel, q1422, fun h => absurd h (by decide), fun h => absurd h (by decide), fun h => absurd h (by decide), fun _ => List.forall_mem_cons.mpr ⟨⟨_, _, rfl, rfl, q1423, zlB q1424, rfl⟩, fun _ h => nomatch h⟩⟩, List.forall_mem_cons.mpr ⟨⟨by decide +kernel, q2109, fun h => absurd h (by decide), fun h => absurd h (by decide), fun h => absurd h (by decide), fun _ => List.forall_mem_cons.mpr ⟨⟨_, _, rfl, rfl, q2110, zlB q2111, rfl⟩, fun _ h => nomatch h⟩⟩, List.forall_mem_cons.mpr ⟨⟨by decide +kernel, q1433, fun h => absurd h (by decide), fun h => absurd h (by decide), fun h => absurd h (by decide), fun _ => List.forall_mem_cons.mpr ⟨⟨_, _, rfl, rfl, q1434, zlB q1435, rfl⟩, fun _ h => nomatch h⟩⟩, List.forall_mem_cons.mpr ⟨⟨by decide +kernel, q2126, fun h => absurd h (by decide), fun h => absurd h (by decide), fun h => absurd h (by decide), fun _ => List.forall_mem_cons.mpr ⟨⟨_, _, rfl, rfl, q2127, zlB q2128, rfl⟩, fun _ h => nomatch h⟩⟩, List.forall_mem_cons.mpr ⟨⟨by decide +kernel, q1445, fun h => absurd h (by decide), fun h => absurd h (by decide), fun h => absurd h (by decide), fun _ => List.forall_mem_cons.mpr ⟨⟨_, _, rfl, rfl, q1446, zlB q1447, rfl⟩, fun _ h => nomatch h⟩⟩, List.forall_mem_cons.mpr ⟨⟨by decide +kernel, q2134, fun h => absurd h (by decide), fun h => absurd h (by decide), fun h => absurd h (by decide), fun _ => List.forall_mem_cons.mpr ⟨⟨_, _, rfl, rfl, q2135, zlB q2136, rfl⟩, fun _ h => nomatch h⟩⟩, List.forall_mem_cons.mpr ⟨⟨by decide +kernel, q1449, fun h => absurd h (by decide), fun h => absurd h (by decide), fun h => absurd h (by decide), fun _ => List.forall_mem_cons.mpr ⟨⟨_, _, rfl, rfl, q1450, zlB q1451, rfl⟩, fun _ h => nomatch h⟩⟩, List.forall_mem_cons.mpr ⟨⟨by decide +kernel, q2138, fun h => absurd h (by decide), fun h => absurd h (by decide), fun h => absurd h (by decide), fun _ => List.forall_mem_cons.mpr ⟨⟨_, _, rfl, rfl, q2139, zlB q2140, rfl⟩, fun _ h => nomatch h⟩⟩, List.forall_mem_cons.mpr ⟨⟨by decide +kernel, q1453, fun h => absurd h (by decide), fun h => absurd h (by decide), fun h => absurd h (by decide), fun _ => List.forall_mem_cons.mpr ⟨⟨_, _, rfl, rfl, q1454, zlB q1455, rfl⟩, fun _ h => nomatch h⟩⟩, List.forall_mem_cons.mpr ⟨⟨by decide +kernel, q2142, fun h => absurd h (by decide), fun h => absurd h (by decide), fun h => absurd h (by decide), fun _ => List.forall_mem_cons.mpr ⟨⟨_, _, rfl, rfl, q2143, zlB q2144, rfl⟩, fun _ h => nomatch h⟩⟩, List.forall_mem_cons.mpr ⟨⟨by decide +kernel, q144, fun h => absurd h (by decide), fun _ => ⟨rfl, _, _, rfl, rfl, rfl, rfl, q145⟩, fun h => absurd h (by decide), fun h => absurd h (by decide)⟩, List.forall_mem_cons.mpr ⟨⟨by decide +kernel, q172, fun h => absurd h (by decide), fun _ => ⟨rfl, _, _, rfl, rfl, rfl, rfl, q173⟩, fun h => absurd h (by decide), fun h => absurd h (by decide)⟩, List.forall_mem_cons.mpr ⟨⟨by decide +kernel, q213, fun h => absurd h (by decide), fun _ => ⟨rfl, _, _, rfl, rfl, rfl, rfl, q214⟩, fun h => absurd h (by decide), fun h => absurd h (by decide)⟩, List.forall_mem_cons.mpr ⟨⟨by decide +kernel, q1481, fun h => absurd h (by decide), fun _ => ⟨rfl, _, _, rfl, rfl, rfl, rfl, q1482⟩, fun h => absurd h (by decide), fun h => absurd h (by decide)⟩, List.forall_mem_cons.mpr ⟨⟨by decide +kernel, q326, fun _ => ⟨_, _, rfl, rfl, rfl, q327⟩, fun h => absurd h (by decide), fun h => absurd h (by decide), fun h => absurd h (by decide)⟩, List.forall_mem_cons.mpr ⟨⟨by decide +kernel, q329, fun h => absurd h (by decide), fun h => absurd h (by decide), fun h => absurd h (by decide), fun _ => List.forall_mem_cons.mpr ⟨⟨_, _, rfl, rfl, q331, zlB qs0, rfl⟩, fun _ h => nomatch h⟩⟩, List.forall_mem_cons.mpr ⟨⟨by decide +kernel, q341, fun h => absurd h (by decide), fun h => absurd h (by decide), fun h => absurd h (by decide), fun _ => List.forall_mem_cons.mpr ⟨⟨_, _, rfl, rfl, q342, zlB q343, rfl⟩, fun _ h => nomatch h⟩⟩, List.forall_mem_cons.mpr ⟨⟨by decide +kernel, q348, fun h => absurd h (by decide), fun _ => ⟨rfl, _, _, rfl, rfl, rfl, rfl, q349⟩, fun h => absurd h (by decide), fun h => absurd h (by decide)⟩, List.forall_mem_cons.mpr ⟨⟨by decide +kernel, q359, fun h => absurd h (by decide), fun _ => ⟨rfl, _, _, rfl, rfl, rfl, rfl, q360⟩, fun h => absurd h (by decide), fun h => absurd h (by decide)⟩, List.forall_mem_cons.mpr ⟨⟨by decide +kernel, q389, fun h => absurd h (by decide), fun h => absurd h (by decide), fun h => absurd h (by decide), fun _ => List.forall_mem_cons.mpr ⟨⟨_, _, rfl, rfl, q390, zlB q391, rfl⟩, fun _ h => nomatch h⟩⟩, List.forall_mem_cons.mpr ⟨⟨by decide +kernel, q474, fun h => absurd h (by decide), fun h => absurd h (by decide), fun h => absurd h (by decide), fun _ => List.forall_mem_cons.mpr ⟨⟨_, _, rfl, rfl, q476, zlB qs4, rfl⟩, fun _ h => nomatch h⟩⟩, List.forall_mem_cons.mpr ⟨⟨by decide +kernel, q478, fun h => absurd h (by decide), fun h => absurd h (by decide), fun h => absurd h (by decide), fun _ => List.forall_mem_cons.mpr ⟨⟨_, _, rfl, rfl, q480, zlB qs5, rfl⟩, fun _ h => nomatch h⟩⟩, List.forall_mem_cons.mpr ⟨⟨by decide +kernel, q482, fun h => absurd h (by decide), fun h => absurd h (by decide), fun h => absurd h (by decide), fun _ => List.forall_mem_cons.mpr ⟨⟨_, _, rfl, rfl, q483, zlB q484, rfl⟩, fun _ h => nomatch h⟩⟩, List.forall_mem_cons.mpr ⟨⟨by decide +kernel, q497, fun h => absurd h (by decide), fun _ => ⟨rfl, _, _, rfl, rfl, rfl, rfl, q498⟩, fun h => absurd h (by decide), fun h => absurd h (by decide)⟩, List.forall_mem_cons.mpr ⟨⟨by decide +kernel, q568, fun h => absurd h (by decide), fun h => absurd h (by decide), fun h => absurd h (by decide), fun _ => List.forall_mem_cons.mpr ⟨⟨_, _, rfl, rfl, q570, zlB qs6, rfl⟩, fun _ h => nomatch h⟩⟩, List.forall_mem_cons.mpr ⟨⟨by decide +kernel, q574, fun h => absurd h (by decide), fun _ => ⟨rfl, _, _, rfl, rfl, rfl, rfl, q575⟩, fun h => absurd h (by decide), fun h => absurd h (by decide)⟩, List.forall_mem_cons.mpr ⟨⟨by decide +kernel, q600, fun _ => ⟨_, _, rfl, rfl, rfl, q601⟩, fun h => absurd h (by decide), fun h => absurd h (by decide), fun h => absurd h (by decide)⟩, List.forall_mem_cons.mpr ⟨⟨by decide +kernel, q603, fun h => absurd h (by decide), fun h => absurd h (by decide), fun h => absurd h (by decide), fun _ => List.forall_mem_cons.mpr ⟨⟨_, _, rfl, rfl, q604, zlB q605, rfl⟩, fun _ h => nomatch h⟩⟩, List.forall_mem_cons.mpr ⟨⟨by decide +kernel, q737, fun h => absurd h (by decide), fun h => absurd h (by decide), fun h => absurd h (by decide), fun _ => List.forall_mem_cons.mpr ⟨⟨_, _, rfl, rfl, q738, zlB q739, rfl⟩, fun _ h => nomatch h⟩⟩, fun _ h => nomatch h⟩⟩⟩⟩⟩⟩⟩⟩⟩⟩⟩⟩⟩⟩⟩⟩⟩⟩⟩⟩⟩⟩⟩⟩⟩⟩⟩⟩⟩⟩⟩⟩⟩⟩⟩⟩⟩⟩⟩⟩
def zks_2 : List zK := [(1, 194, 1, ⟨"java/util/ArrayList", "clear", "()V"⟩, 0, [(18, 224)], none),
  (1, 197, 1, ⟨"SecretBuyers", "sees", "(LSecretBuyers$Visit;)V"⟩, 1, [(0, 23)], none),
  (1, 201, 1, ⟨"SecretBuyers", "scores", "(LSecretBuyers$Visit;)V"⟩, 1, [(0, 25)], none),
  (1, 204, 1, ⟨"SecretBuyers", "isFirstOf", "(LSecretBuyers$Visit;)Z"⟩, 1, [(0, 26)], none),
  (1, 208, 1, ⟨"SecretBuyers", "seeks", "(IIZ)I"⟩, 3, [(0, 27)], none),
  (1, 212, 1, ⟨"SecretBuyers", "leans", "()V"⟩, 0, [(0, 29)], none),
  (1, 215, 1, ⟨"SecretBuyers", "day", "()I"⟩, 0, [(0, 24)], none),
  (1, 234, 1, ⟨"SecretBuyers$Visit", "canBeAlone", "()Z"⟩, 0, [(6, 175)], none),
  (1, 254, 1, ⟨"SecretBuyers$Visit", "isAheadOf", "(LSecretBuyers$Visit;)Z"⟩, 1, [(6, 177)], none),
  (1, 257, 1, ⟨"java/util/ArrayList", "add", "(ILjava/lang/Object;)V"⟩, 2, [(18, 225)], none),
  (1, 266, 1, ⟨"SecretBuyers$Brief", "score", "(LSecretBuyers$Ask;LSecretBuyers$Visit;I)I"⟩, 3, [(8, 183)], none),
  (1, 269, 1, ⟨"SecretBuyers$Brief", "bonus", "(LSecretBuyers$Ask;LSecretBuyers$Visit;I)I"⟩, 3, [(8, 185)], none),
  (1, 277, 1, ⟨"SecretBuyers$Visit", "quarrels", "(LSecretBuyers$Visit;I)Z"⟩, 2, [(6, 178)], none),
  (1, 281, 0, ⟨"java/lang/Integer", "bitCount", "(I)I"⟩, 1, [(0, 302)], none),
  (1, 287, 1, ⟨"SecretBuyers", "parts", "(I)Z"⟩, 1, [(0, 28)], none),
  (1, 293, 1, ⟨"SecretBuyers", "works", "()V"⟩, 0, [(0, 22)], none),
  (1, 296, 0, ⟨"SecretBuyers", "need", "(Z)V"⟩, 1, [(0, 51)], none),
  (1, 300, 1, ⟨"SecretBuyers", "visitAt", "(I)LSecretBuyers$Visit;"⟩, 1, [(0, 50)], none),
  (1, 304, 1, ⟨"SecretBuyers$Visit", "counts", "()Z"⟩, 0, [(6, 180)], none),
  (1, 307, 1, ⟨"java/util/ArrayList", "indexOf", "(Ljava/lang/Object;)I"⟩, 1, [(18, 222)], none),
  (1, 314, 1, ⟨"SecretBuyers$Visit", "meets", "(LSecretBuyers$Visit;)Z"⟩, 1, [(6, 179)], none),
  (1, 317, 1, ⟨"SecretBuyers", "fair", "(LSecretBuyers$Visit;)I"⟩, 1, [(0, 35)], none),
  (1, 325, 0, ⟨"SecretBuyers", "areDays", "(II)Z"⟩, 2, [(0, 33)], none),
  (1, 329, 1, ⟨"SecretBuyers", "meanOf", "(III)I"⟩, 3, [(0, 34)], none),
  (1, 333, 0, ⟨"java/lang/Math", "abs", "(I)I"⟩, 1, [(0, 231)], none),
  (1, 338, 1, ⟨"SecretBuyers", "apart", "(IIII)I"⟩, 4, [(0, 36)], none),
  (1, 342, 1, ⟨"SecretBuyers", "row", "(IIII)I"⟩, 4, [(0, 38)], none),
  (1, 345, 0, ⟨"java/lang/Math", "max", "(II)I"⟩, 2, [(0, 229)], none),
  (1, 353, 1, ⟨"SecretBuyers$Place", "way", "(LSecretBuyers$Place;)I"⟩, 1, [(5, 173)], none),
  (1, 357, 1, ⟨"SecretBuyers", "mayGo", "(ILSecretBuyers$Shop;I)Z"⟩, 3, [(0, 41)], none),
  (1, 362, 0, ⟨"java/lang/Math", "min", "(II)I"⟩, 2, [(0, 230)], none),
  (1, 365, 1, ⟨"SecretBuyers", "sumBy", "(IIII)I"⟩, 4, [(0, 43)], none),
  (1, 368, 1, ⟨"SecretBuyers", "latest", "(I)LSecretBuyers$Visit;"⟩, 1, [(0, 45)], none),
  (2, 36, 2, ⟨"SecretBuyers$Brief", "<init>", "(III)V"⟩, 3, [(0, 182)], none),
  (2, 43, 1, ⟨"SecretBuyers$Reader", "next", "()V"⟩, 0, [(1, 57)], none),
  (2, 52, 1, ⟨"SecretBuyers$Reader", "at", "(I)I"⟩, 1, [(1, 58)], none),
  (2, 56, 0, ⟨"SecretBuyers$Reader", "isLetter", "(I)Z"⟩, 1, [(0, 59)], none),
  (2, 60, 0, ⟨"SecretBuyers$Reader", "isDigit", "(I)Z"⟩, 1, [(0, 60)], none),
  (2, 68, 1, ⟨"java/lang/String", "indexOf", "(I)I"⟩, 1, [(19, 242), (21, 242)], none),
  (2, 75, 2, ⟨"SecretBuyers$Wrong", "<init>", "(II)V"⟩, 2, [(0, 186)], none)]
set_option maxRecDepth 100000 in
theorem zks_2_ok : ∀ e ∈ zks_2, zKok e := List.forall_mem_cons.mpr ⟨⟨by decide +kernel, q1195, fun h => absurd h (by decide), fun h => absurd h (by decide), fun h => absurd h (by decide), fun _ => List.forall_mem_cons.mpr ⟨⟨_, _, rfl, rfl, q1196, zlB q1197, rfl⟩, fun _ h => nomatch h⟩⟩, List.forall_mem_cons.mpr ⟨⟨by decide +kernel, q1199, fun h => absurd h (by decide), fun h => absurd h (by decide), fun h => absurd h (by decide), fun _ => List.forall_mem_cons.mpr ⟨⟨_, _, rfl, rfl, q1201, zlB qs25, rfl⟩, fun _ h => nomatch h⟩⟩, List.forall_mem_cons.mpr ⟨⟨by decide +kernel, q1229, fun h => absurd h (by decide), fun h => absurd h (by decide), fun h => absurd h (by decide), fun _ => List.forall_mem_cons.mpr ⟨⟨_, _, rfl, rfl, q1231, zlB qs28, rfl⟩, fun _ h => nomatch h⟩⟩, List.forall_mem_cons.mpr ⟨⟨by decide +kernel, q1333, fun h => absurd h (by decide), fun h => absurd h (by decide), fun h => absurd h (by decide), fun _ => List.forall_mem_cons.mpr ⟨⟨_, _, rfl, rfl, q1335, zlB qs30, rfl⟩, fun _ h => nomatch h⟩⟩, List.forall_mem_cons.mpr ⟨⟨by decide +kernel, q1337, fun h => absurd h (by decide), fun h => absurd h (by decide), fun h => absurd h (by decide), fun _ => List.forall_mem_cons.mpr ⟨⟨_, _, rfl, rfl, q1339, zlB qs31, rfl⟩, fun _ h => nomatch h⟩⟩, List.forall_mem_cons.mpr ⟨⟨by decide +kernel, q1358, fun h => absurd h (by decide), fun h => absurd h (by decide), fun h => absurd h (by decide), fun _ => List.forall_mem_cons.mpr ⟨⟨_, _, rfl, rfl, q1360, zlB qs33, rfl⟩, fun _ h => nomatch h⟩⟩, List.forall_mem_cons.mpr ⟨⟨by decide +kernel, q1203, fun h => absurd h (by decide), fun h => absurd h (by decide), fun h => absurd h (by decide), fun _ => List.forall_mem_cons.mpr ⟨⟨_, _, rfl, rfl, q1205, zlB qs26, rfl⟩, fun _ h => nomatch h⟩⟩, List.forall_mem_cons.mpr ⟨⟨by decide +kernel, q1207, fun h => absurd h (by decide), fun h => absurd h (by decide), fun h => absurd h (by decide), fun _ => List.forall_mem_cons.mpr ⟨⟨_, _, rfl, rfl, q1208, zlB q1209, rfl⟩, fun _ h => nomatch h⟩⟩, List.forall_mem_cons.mpr ⟨⟨by decide +kernel, q1216, fun h => absurd h (by decide), fun h => absurd h (by decide), fun h => absurd h (by decide), fun _ => List.forall_mem_cons.mpr ⟨⟨_, _, rfl, rfl, q1217, zlB q1218, rfl⟩, fun _ h => nomatch h⟩⟩, List.forall_mem_cons.mpr ⟨⟨by decide +kernel, q1220, fun h => absurd h (by decide), fun h => absurd h (by decide), fun h => absurd h (by decide), fun _ => List.forall_mem_cons.mpr ⟨⟨_, _, rfl, rfl, q1221, zlB q1222, rfl⟩, fun _ h => nomatch h⟩⟩, List.forall_mem_cons.mpr ⟨⟨by decide +kernel, q1233, fun h => absurd h (by decide), fun h => absurd h (by decide), fun h => absurd h (by decide), fun _ => List.forall_mem_cons.mpr ⟨⟨_, _, rfl, rfl, q1234, zlB q1235, rfl⟩, fun _ h => nomatch h⟩⟩, List.forall_mem_cons.mpr ⟨⟨by decide +kernel, q1320, fun h => absurd h (by decide), fun h => absurd h (by decide), fun h => absurd h (by decide), fun _ => List.forall_mem_cons.mpr ⟨⟨_, _, rfl, rfl, q1321, zlB q1322, rfl⟩, fun _ h => nomatch h⟩⟩, List.forall_mem_cons.mpr ⟨⟨by decide +kernel, q1341, fun h => absurd h (by decide), fun h => absurd h (by decide), fun h => absurd h (by decide), fun _ => List.forall_mem_cons.mpr ⟨⟨_, _, rfl, rfl, q1342, zlB q1343, rfl⟩, fun _ h => nomatch h⟩⟩, List.forall_mem_cons.mpr ⟨⟨by decide +kernel, q1353, fun _ => ⟨_, _, rfl, rfl, rfl, q1246⟩, fun h => absurd h (by decide), fun h => absurd h (by decide), fun h => absurd h (by decide)⟩, List.forall_mem_cons.mpr ⟨⟨by decide +kernel, q1354, fun h => absurd h (by decide), fun h => absurd h (by decide), fun h => absurd h (by decide), fun _ => List.forall_mem_cons.mpr ⟨⟨_, _, rfl, rfl, q1356, zlB qs32, rfl⟩, fun _ h => nomatch h⟩⟩, List.forall_mem_cons.mpr ⟨⟨by decide +kernel, q1191, fun h => absurd h (by decide), fun h => absurd h (by decide), fun h => absurd h (by decide), fun _ => List.forall_mem_cons.mpr ⟨⟨_, _, rfl, rfl, q1193, zlB qs24, rfl⟩, fun _ h => nomatch h⟩⟩, List.forall_mem_cons.mpr ⟨⟨by decide +kernel, q1469, fun _ => ⟨_, _, rfl, rfl, rfl, q1470⟩, fun h => absurd h (by decide), fun h => absurd h (by decide), fun h => absurd h (by decide)⟩, List.forall_mem_cons.mpr ⟨⟨by decide +kernel, q1465, fun h => absurd h (by decide), fun h => absurd h (by decide), fun h => absurd h (by decide), fun _ => List.forall_mem_cons.mpr ⟨⟨_, _, rfl, rfl, q1467, zlB qs40, rfl⟩, fun _ h => nomatch h⟩⟩, List.forall_mem_cons.mpr ⟨⟨by decide +kernel, q1389, fun h => absurd h (by decide), fun h => absurd h (by decide), fun h => absurd h (by decide), fun _ => List.forall_mem_cons.mpr ⟨⟨_, _, rfl, rfl, q1367, zlB q1368, rfl⟩, fun _ h => nomatch h⟩⟩, List.forall_mem_cons.mpr ⟨⟨by decide +kernel, q1493, fun h => absurd h (by decide), fun h => absurd h (by decide), fun h => absurd h (by decide), fun _ => List.forall_mem_cons.mpr ⟨⟨_, _, rfl, rfl, q1001, zlB q1002, rfl⟩, fun _ h => nomatch h⟩⟩, List.forall_mem_cons.mpr ⟨⟨by decide +kernel, q1362, fun h => absurd h (by decide), fun h => absurd h (by decide), fun h => absurd h (by decide), fun _ => List.forall_mem_cons.mpr ⟨⟨_, _, rfl, rfl, q1363, zlB q1364, rfl⟩, fun _ h => nomatch h⟩⟩, List.forall_mem_cons.mpr ⟨⟨by decide +kernel, q1390, fun h => absurd h (by decide), fun h => absurd h (by decide), fun h => absurd h (by decide), fun _ => List.forall_mem_cons.mpr ⟨⟨_, _, rfl, rfl, q1392, zlB qs35, rfl⟩, fun _ h => nomatch h⟩⟩, List.forall_mem_cons.mpr ⟨⟨by decide +kernel, q1382, fun _ => ⟨_, _, rfl, rfl, rfl, q1383⟩, fun h => absurd h (by decide), fun h => absurd h (by decide), fun h => absurd h (by decide)⟩, List.forall_mem_cons.mpr ⟨⟨by decide +kernel, q1385, fun h => absurd h (by decide), fun h => absurd h (by decide), fun h => absurd h (by decide), fun _ => List.forall_mem_cons.mpr ⟨⟨_, _, rfl, rfl, q1387, zlB qs34, rfl⟩, fun _ h => nomatch h⟩⟩, List.forall_mem_cons.mpr ⟨⟨by decide +kernel, q1398, fun _ => ⟨_, _, rfl, rfl, rfl, q1351⟩, fun h => absurd h (by decide), fun h => absurd h (by decide), fun h => absurd h (by decide)⟩, List.forall_mem_cons.mpr ⟨⟨by decide +kernel, q1407, fun h => absurd h (by decide), fun h => absurd h (by decide), fun h => absurd h (by decide), fun _ => List.forall_mem_cons.mpr ⟨⟨_, _, rfl, rfl, q1395, zlB q1396, rfl⟩, fun _ h => nomatch h⟩⟩, List.forall_mem_cons.mpr ⟨⟨by decide +kernel, q1403, fun h => absurd h (by decide), fun h => absurd h (by decide), fun h => absurd h (by decide), fun _ => List.forall_mem_cons.mpr ⟨⟨_, _, rfl, rfl, q1405, zlB qs36, rfl⟩, fun _ h => nomatch h⟩⟩, List.forall_mem_cons.mpr ⟨⟨by decide +kernel, q1408, fun _ => ⟨_, _, rfl, rfl, rfl, q411⟩, fun h => absurd h (by decide), fun h => absurd h (by decide), fun h => absurd h (by decide)⟩, List.forall_mem_cons.mpr ⟨⟨by decide +kernel, q1421, fun h => absurd h (by decide), fun h => absurd h (by decide), fun h => absurd h (by decide), fun _ => List.forall_mem_cons.mpr ⟨⟨_, _, rfl, rfl, q1347, zlB q1348, rfl⟩, fun _ h => nomatch h⟩⟩, List.forall_mem_cons.mpr ⟨⟨by decide +kernel, q1417, fun h => absurd h (by decide), fun h => absurd h (by decide), fun h => absurd h (by decide), fun _ => List.forall_mem_cons.mpr ⟨⟨_, _, rfl, rfl, q1419, zlB qs37, rfl⟩, fun _ h => nomatch h⟩⟩, List.forall_mem_cons.mpr ⟨⟨by decide +kernel, q1427, fun _ => ⟨_, _, rfl, rfl, rfl, q452⟩, fun h => absurd h (by decide), fun h => absurd h (by decide), fun h => absurd h (by decide)⟩, List.forall_mem_cons.mpr ⟨⟨by decide +kernel, q1428, fun h => absurd h (by decide), fun h => absurd h (by decide), fun h => absurd h (by decide), fun _ => List.forall_mem_cons.mpr ⟨⟨_, _, rfl, rfl, q1430, zlB qs38, rfl⟩, fun _ h => nomatch h⟩⟩, List.forall_mem_cons.mpr ⟨⟨by decide +kernel, q1437, fun h => absurd h (by decide), fun h => absurd h (by decide), fun h => absurd h (by decide), fun _ => List.forall_mem_cons.mpr ⟨⟨_, _, rfl, rfl, q1439, zlB qs39, rfl⟩, fun _ h => nomatch h⟩⟩, List.forall_mem_cons.mpr ⟨⟨by decide +kernel, q609, fun h => absurd h (by decide), fun _ => ⟨rfl, _, _, rfl, rfl, rfl, rfl, q610⟩, fun h => absurd h (by decide), fun h => absurd h (by decide)⟩, List.forall_mem_cons.mpr ⟨⟨by decide +kernel, q640, fun h => absurd h (by decide), fun h => absurd h (by decide), fun h => absurd h (by decide), fun _ => List.forall_mem_cons.mpr ⟨⟨_, _, rfl, rfl, q642, zlB qs7, rfl⟩, fun _ h => nomatch h⟩⟩, List.forall_mem_cons.mpr ⟨⟨by decide +kernel, q644, fun h => absurd h (by decide), fun h => absurd h (by decide), fun h => absurd h (by decide), fun _ => List.forall_mem_cons.mpr ⟨⟨_, _, rfl, rfl, q646, zlB qs8, rfl⟩, fun _ h => nomatch h⟩⟩, List.forall_mem_cons.mpr ⟨⟨by decide +kernel, q648, fun _ => ⟨_, _, rfl, rfl, rfl, q649⟩, fun h => absurd h (by decide), fun h => absurd h (by decide), fun h => absurd h (by decide)⟩, List.forall_mem_cons.mpr ⟨⟨by decide +kernel, q651, fun _ => ⟨_, _, rfl, rfl, rfl, q652⟩, fun h => absurd h (by decide), fun h => absurd h (by decide), fun h => absurd h (by decide)⟩, List.forall_mem_cons.mpr ⟨⟨by decide +kernel, q655, fun h => absurd h (by decide), fun h => absurd h (by decide), fun h => absurd h (by decide), fun _ => List.forall_mem_cons.mpr ⟨⟨_, _, rfl, rfl, q656, zlB q657, rfl⟩, List.forall_mem_cons.mpr ⟨⟨_, _, rfl, rfl, q656, zlB q657, rfl⟩, fun _ h => nomatch h⟩⟩⟩, List.forall_mem_cons.mpr ⟨⟨by decide +kernel, q810, fun h => absurd h (by decide), fun _ => ⟨rfl, _, _, rfl, rfl, rfl, rfl, q811⟩, fun h => absurd h (by decide), fun h => absurd h (by decide)⟩, fun _ h => nomatch h⟩⟩⟩⟩⟩⟩⟩⟩⟩⟩⟩⟩⟩⟩⟩⟩⟩⟩⟩⟩⟩⟩⟩⟩⟩⟩⟩⟩⟩⟩⟩⟩⟩⟩⟩⟩⟩⟩⟩⟩
def zks_3 : List zK := [(2, 78, 1, ⟨"java/lang/String", "length", "()I"⟩, 0, [(19, 245), (21, 245)], none),
  (2, 82, 1, ⟨"java/lang/String", "indexOf", "(II)I"⟩, 2, [(19, 243), (21, 243)], none),
  (2, 85, 1, ⟨"java/lang/String", "charAt", "(I)C"⟩, 1, [(19, 248), (21, 248)], none),
  (2, 89, 1, ⟨"SecretBuyers$Reader", "which", "(Ljava/lang/String;)I"⟩, 1, [(1, 62)], none),
  (2, 93, 1, ⟨"SecretBuyers$Reader", "meets", "(Ljava/lang/String;)Z"⟩, 1, [(1, 75)], none),
  (2, 97, 1, ⟨"SecretBuyers$Reader", "wrong", "(I)LSecretBuyers$Wrong;"⟩, 1, [(1, 63)], none),
  (2, 101, 1, ⟨"SecretBuyers$Reader", "isSign", "(C)Z"⟩, 1, [(1, 67)], none),
  (2, 113, 2, ⟨"java/lang/StringBuilder", "<init>", "(I)V"⟩, 1, [(0, 297)], none),
  (2, 116, 1, ⟨"java/lang/StringBuilder", "append", "(C)Ljava/lang/StringBuilder;"⟩, 1, [(20, 298)], none),
  (2, 120, 1, ⟨"java/lang/StringBuilder", "toString", "()Ljava/lang/String;"⟩, 0, [(20, 299)], none),
  (2, 126, 1, ⟨"SecretBuyers$Reader", "let", "()V"⟩, 0, [(1, 64)], none),
  (2, 135, 1, ⟨"SecretBuyers$Reader", "e", "()LSecretBuyers$Exp;"⟩, 0, [(1, 68)], none),
  (2, 139, 2, ⟨"SecretBuyers$Must", "<init>", "(LSecretBuyers$Exp;)V"⟩, 1, [(0, 205)], none),
  (2, 142, 1, ⟨"java/util/ArrayList", "add", "(Ljava/lang/Object;)Z"⟩, 1, [(18, 215)], none),
  (2, 148, 1, ⟨"SecretBuyers$Reader", "number", "(II)I"⟩, 2, [(1, 73)], none),
  (2, 153, 1, ⟨"SecretBuyers$Reader", "need", "(Ljava/lang/String;)V"⟩, 1, [(1, 74)], none),
  (2, 159, 2, ⟨"SecretBuyers$Add", "<init>", "(LSecretBuyers$Exp;LSecretBuyers$Exp;)V"⟩, 2, [(0, 207)], none),
  (2, 164, 2, ⟨"SecretBuyers$Bonus", "<init>", "(ILSecretBuyers$Exp;)V"⟩, 2, [(0, 209)], none),
  (2, 167, 1, ⟨"SecretBuyers$Reader", "need", "(C)V"⟩, 1, [(1, 66)], none),
  (2, 170, 1, ⟨"SecretBuyers$Reader", "name", "()Ljava/lang/String;"⟩, 0, [(1, 65)], none),
  (2, 176, 1, ⟨"java/util/ArrayList", "contains", "(Ljava/lang/Object;)Z"⟩, 1, [(18, 221)], none),
  (2, 179, 1, ⟨"java/util/ArrayList", "size", "()I"⟩, 0, [(18, 214)], none),
  (2, 184, 1, ⟨"SecretBuyers$Reader", "test", "()LSecretBuyers$Exp;"⟩, 0, [(1, 69)], none),
  (2, 191, 2, ⟨"SecretBuyers$Row", "<init>", "(LSecretBuyers$Exp;)V"⟩, 1, [(0, 196)], none),
  (2, 192, 1, ⟨"SecretBuyers$Row", "and", "(CLSecretBuyers$Exp;)LSecretBuyers$Row;"⟩, 2, [(14, 197)], none),
  (2, 196, 1, ⟨"SecretBuyers$Reader", "sum", "()LSecretBuyers$Exp;"⟩, 0, [(1, 70)], none),
  (2, 199, 1, ⟨"SecretBuyers$Reader", "term", "()LSecretBuyers$Exp;"⟩, 0, [(1, 71)], none),
  (2, 202, 1, ⟨"SecretBuyers$Reader", "part", "()LSecretBuyers$Exp;"⟩, 0, [(1, 72)], none),
  (2, 209, 1, ⟨"java/util/ArrayList", "indexOf", "(Ljava/lang/Object;)I"⟩, 1, [(18, 222)], none),
  (2, 214, 2, ⟨"SecretBuyers$About", "<init>", "(I)V"⟩, 1, [(0, 188)], none),
  (2, 217, 2, ⟨"SecretBuyers$Named", "<init>", "(I)V"⟩, 1, [(0, 190)], none),
  (2, 220, 2, ⟨"SecretBuyers$Constant", "<init>", "(I)V"⟩, 1, [(0, 192)], none),
  (2, 223, 2, ⟨"SecretBuyers$Not", "<init>", "(LSecretBuyers$Exp;)V"⟩, 1, [(0, 194)], none),
  (3, 18, 0, ⟨"java/lang/Integer", "bitCount", "(I)I"⟩, 1, [(0, 302)], none),
  (4, 7, 1, ⟨"SecretBuyersModel", "lay", "(J)V"⟩, 1, [(3, 80)], none),
  (4, 234, 0, ⟨"SecretBuyersModel", "isLetter", "(I)Z"⟩, 1, [(0, 84)], none),
  (4, 243, 0, ⟨"SecretBuyersModel", "rank", "(I)I"⟩, 1, [(0, 85)], none),
  (4, 247, 0, ⟨"SecretBuyersModel", "isDigit", "(I)Z"⟩, 1, [(0, 86)], none),
  (4, 254, 0, ⟨"SecretBuyersModel", "isSignOf", "(I)Z"⟩, 1, [(0, 87)], none),
  (4, 263, 1, ⟨"SecretBuyersModel", "isSign", "(I)Z"⟩, 1, [(3, 95)], none)]
set_option maxRecDepth 100000 in
theorem zks_3_ok : ∀ e ∈ zks_3, zKok e := List.forall_mem_cons.mpr ⟨⟨by decide +kernel, q746, fun h => absurd h (by decide), fun h => absurd h (by decide), fun h => absurd h (by decide), fun _ => List.forall_mem_cons.mpr ⟨⟨_, _, rfl, rfl, q670, zlB q671, rfl⟩, List.forall_mem_cons.mpr ⟨⟨_, _, rfl, rfl, q670, zlB q671, rfl⟩, fun _ h => nomatch h⟩⟩⟩, List.forall_mem_cons.mpr ⟨⟨by decide +kernel, q747, fun h => absurd h (by decide), fun h => absurd h (by decide), fun h => absurd h (by decide), fun _ => List.forall_mem_cons.mpr ⟨⟨_, _, rfl, rfl, q660, zlB q661, rfl⟩, List.forall_mem_cons.mpr ⟨⟨_, _, rfl, rfl, q660, zlB q661, rfl⟩, fun _ h => nomatch h⟩⟩⟩, List.forall_mem_cons.mpr ⟨⟨by decide +kernel, q748, fun h => absurd h (by decide), fun h => absurd h (by decide), fun h => absurd h (by decide), fun _ => List.forall_mem_cons.mpr ⟨⟨_, _, rfl, rfl, q749, zlB q750, rfl⟩, List.forall_mem_cons.mpr ⟨⟨_, _, rfl, rfl, q749, zlB q750, rfl⟩, fun _ h => nomatch h⟩⟩⟩, List.forall_mem_cons.mpr ⟨⟨by decide +kernel, q742, fun h => absurd h (by decide), fun h => absurd h (by decide), fun h => absurd h (by decide), fun _ => List.forall_mem_cons.mpr ⟨⟨_, _, rfl, rfl, q744, zlB qs9, rfl⟩, fun _ h => nomatch h⟩⟩, List.forall_mem_cons.mpr ⟨⟨by decide +kernel, q1161, fun h => absurd h (by decide), fun h => absurd h (by decide), fun h => absurd h (by decide), fun _ => List.forall_mem_cons.mpr ⟨⟨_, _, rfl, rfl, q1163, zlB qs23, rfl⟩, fun _ h => nomatch h⟩⟩, List.forall_mem_cons.mpr ⟨⟨by decide +kernel, q766, fun h => absurd h (by decide), fun h => absurd h (by decide), fun h => absurd h (by decide), fun _ => List.forall_mem_cons.mpr ⟨⟨_, _, rfl, rfl, q768, zlB qs10, rfl⟩, fun _ h => nomatch h⟩⟩, List.forall_mem_cons.mpr ⟨⟨by decide +kernel, q1044, fun h => absurd h (by decide), fun h => absurd h (by decide), fun h => absurd h (by decide), fun _ => List.forall_mem_cons.mpr ⟨⟨_, _, rfl, rfl, q1046, zlB qs15, rfl⟩, fun _ h => nomatch h⟩⟩, List.forall_mem_cons.mpr ⟨⟨by decide +kernel, q851, fun h => absurd h (by decide), fun _ => ⟨rfl, _, _, rfl, rfl, rfl, rfl, q852⟩, fun h => absurd h (by decide), fun h => absurd h (by decide)⟩, List.forall_mem_cons.mpr ⟨⟨by decide +kernel, q879, fun h => absurd h (by decide), fun h => absurd h (by decide), fun h => absurd h (by decide), fun _ => List.forall_mem_cons.mpr ⟨⟨_, _, rfl, rfl, q880, zlB q881, rfl⟩, fun _ h => nomatch h⟩⟩, List.forall_mem_cons.mpr ⟨⟨by decide +kernel, q939, fun h => absurd h (by decide), fun h => absurd h (by decide), fun h => absurd h (by decide), fun _ => List.forall_mem_cons.mpr ⟨⟨_, _, rfl, rfl, q940, zlB q941, rfl⟩, fun _ h => nomatch h⟩⟩, List.forall_mem_cons.mpr ⟨⟨by decide +kernel, q839, fun h => absurd h (by decide), fun h => absurd h (by decide), fun h => absurd h (by decide), fun _ => List.forall_mem_cons.mpr ⟨⟨_, _, rfl, rfl, q841, zlB qs12, rfl⟩, fun _ h => nomatch h⟩⟩, List.forall_mem_cons.mpr ⟨⟨by decide +kernel, q1048, fun h => absurd h (by decide), fun h => absurd h (by decide), fun h => absurd h (by decide), fun _ => List.forall_mem_cons.mpr ⟨⟨_, _, rfl, rfl, q1050, zlB qs16, rfl⟩, fun _ h => nomatch h⟩⟩, List.forall_mem_cons.mpr ⟨⟨by decide +kernel, q1145, fun h => absurd h (by decide), fun _ => ⟨rfl, _, _, rfl, rfl, rfl, rfl, q1146⟩, fun h => absurd h (by decide), fun h => absurd h (by decide)⟩, List.forall_mem_cons.mpr ⟨⟨by decide +kernel, q1142, fun h => absurd h (by decide), fun h => absurd h (by decide), fun h => absurd h (by decide), fun _ => List.forall_mem_cons.mpr ⟨⟨_, _, rfl, rfl, q390, zlB q391, rfl⟩, fun _ h => nomatch h⟩⟩, List.forall_mem_cons.mpr ⟨⟨by decide +kernel, q1073, fun h => absurd h (by decide), fun h => absurd h (by decide), fun h => absurd h (by decide), fun _ => List.forall_mem_cons.mpr ⟨⟨_, _, rfl, rfl, q1075, zlB qs21, rfl⟩, fun _ h => nomatch h⟩⟩, List.forall_mem_cons.mpr ⟨⟨by decide +kernel, q1157, fun h => absurd h (by decide), fun h => absurd h (by decide), fun h => absurd h (by decide), fun _ => List.forall_mem_cons.mpr ⟨⟨_, _, rfl, rfl, q1159, zlB qs22, rfl⟩, fun _ h => nomatch h⟩⟩, List.forall_mem_cons.mpr ⟨⟨by decide +kernel, q1167, fun h => absurd h (by decide), fun _ => ⟨rfl, _, _, rfl, rfl, rfl, rfl, q1168⟩, fun h => absurd h (by decide), fun h => absurd h (by decide)⟩, List.forall_mem_cons.mpr ⟨⟨by decide +kernel, q1178, fun h => absurd h (by decide), fun _ => ⟨rfl, _, _, rfl, rfl, rfl, rfl, q1179⟩, fun h => absurd h (by decide), fun h => absurd h (by decide)⟩, List.forall_mem_cons.mpr ⟨⟨by decide +kernel, q1040, fun h => absurd h (by decide), fun h => absurd h (by decide), fun h => absurd h (by decide), fun _ => List.forall_mem_cons.mpr ⟨⟨_, _, rfl, rfl, q1042, zlB qs14, rfl⟩, fun _ h => nomatch h⟩⟩, List.forall_mem_cons.mpr ⟨⟨by decide +kernel, q843, fun h => absurd h (by decide), fun h => absurd h (by decide), fun h => absurd h (by decide), fun _ => List.forall_mem_cons.mpr ⟨⟨_, _, rfl, rfl, q845, zlB qs13, rfl⟩, fun _ h => nomatch h⟩⟩, List.forall_mem_cons.mpr ⟨⟨by decide +kernel, q996, fun h => absurd h (by decide), fun h => absurd h (by decide), fun h => absurd h (by decide), fun _ => List.forall_mem_cons.mpr ⟨⟨_, _, rfl, rfl, q997, zlB q998, rfl⟩, fun _ h => nomatch h⟩⟩, List.forall_mem_cons.mpr ⟨⟨by decide +kernel, q1039, fun h => absurd h (by decide), fun h => absurd h (by decide), fun h => absurd h (by decide), fun _ => List.forall_mem_cons.mpr ⟨⟨_, _, rfl, rfl, q342, zlB q343, rfl⟩, fun _ h => nomatch h⟩⟩, List.forall_mem_cons.mpr ⟨⟨by decide +kernel, q1052, fun h => absurd h (by decide), fun h => absurd h (by decide), fun h => absurd h (by decide), fun _ => List.forall_mem_cons.mpr ⟨⟨_, _, rfl, rfl, q1054, zlB qs17, rfl⟩, fun _ h => nomatch h⟩⟩, List.forall_mem_cons.mpr ⟨⟨by decide +kernel, q1120, fun h => absurd h (by decide), fun _ => ⟨rfl, _, _, rfl, rfl, rfl, rfl, q1121⟩, fun h => absurd h (by decide), fun h => absurd h (by decide)⟩, List.forall_mem_cons.mpr ⟨⟨by decide +kernel, q1136, fun h => absurd h (by decide), fun h => absurd h (by decide), fun h => absurd h (by decide), fun _ => List.forall_mem_cons.mpr ⟨⟨_, _, rfl, rfl, q1137, zlB q1138, rfl⟩, fun _ h => nomatch h⟩⟩, List.forall_mem_cons.mpr ⟨⟨by decide +kernel, q1056, fun h => absurd h (by decide), fun h => absurd h (by decide), fun h => absurd h (by decide), fun _ => List.forall_mem_cons.mpr ⟨⟨_, _, rfl, rfl, q1058, zlB qs18, rfl⟩, fun _ h => nomatch h⟩⟩, List.forall_mem_cons.mpr ⟨⟨by decide +kernel, q1060, fun h => absurd h (by decide), fun h => absurd h (by decide), fun h => absurd h (by decide), fun _ => List.forall_mem_cons.mpr ⟨⟨_, _, rfl, rfl, q1062, zlB qs19, rfl⟩, fun _ h => nomatch h⟩⟩, List.forall_mem_cons.mpr ⟨⟨by decide +kernel, q1064, fun h => absurd h (by decide), fun h => absurd h (by decide), fun h => absurd h (by decide), fun _ => List.forall_mem_cons.mpr ⟨⟨_, _, rfl, rfl, q1066, zlB qs20, rfl⟩, fun _ h => nomatch h⟩⟩, List.forall_mem_cons.mpr ⟨⟨by decide +kernel, q1070, fun h => absurd h (by decide), fun h => absurd h (by decide), fun h => absurd h (by decide), fun _ => List.forall_mem_cons.mpr ⟨⟨_, _, rfl, rfl, q1001, zlB q1002, rfl⟩, fun _ h => nomatch h⟩⟩, List.forall_mem_cons.mpr ⟨⟨by decide +kernel, q1077, fun h => absurd h (by decide), fun _ => ⟨rfl, _, _, rfl, rfl, rfl, rfl, q1078⟩, fun h => absurd h (by decide), fun h => absurd h (by decide)⟩, List.forall_mem_cons.mpr ⟨⟨by decide +kernel, q1090, fun h => absurd h (by decide), fun _ => ⟨rfl, _, _, rfl, rfl, rfl, rfl, q1091⟩, fun h => absurd h (by decide), fun h => absurd h (by decide)⟩, List.forall_mem_cons.mpr ⟨⟨by decide +kernel, q1100, fun h => absurd h (by decide), fun _ => ⟨rfl, _, _, rfl, rfl, rfl, rfl, q1101⟩, fun h => absurd h (by decide), fun h => absurd h (by decide)⟩, List.forall_mem_cons.mpr ⟨⟨by decide +kernel, q1110, fun h => absurd h (by decide), fun _ => ⟨rfl, _, _, rfl, rfl, rfl, rfl, q1111⟩, fun h => absurd h (by decide), fun h => absurd h (by decide)⟩, List.forall_mem_cons.mpr ⟨⟨by decide +kernel, q1245, fun _ => ⟨_, _, rfl, rfl, rfl, q1246⟩, fun h => absurd h (by decide), fun h => absurd h (by decide), fun h => absurd h (by decide)⟩, List.forall_mem_cons.mpr ⟨⟨by decide +kernel, q1523, fun h => absurd h (by decide), fun h => absurd h (by decide), fun h => absurd h (by decide), fun _ => List.forall_mem_cons.mpr ⟨⟨_, _, rfl, rfl, q1525, zlB qs41, rfl⟩, fun _ h => nomatch h⟩⟩, List.forall_mem_cons.mpr ⟨⟨by decide +kernel, q1802, fun _ => ⟨_, _, rfl, rfl, rfl, q1803⟩, fun h => absurd h (by decide), fun h => absurd h (by decide), fun h => absurd h (by decide)⟩, List.forall_mem_cons.mpr ⟨⟨by decide +kernel, q1806, fun _ => ⟨_, _, rfl, rfl, rfl, q1807⟩, fun h => absurd h (by decide), fun h => absurd h (by decide), fun h => absurd h (by decide)⟩, List.forall_mem_cons.mpr ⟨⟨by decide +kernel, q1809, fun _ => ⟨_, _, rfl, rfl, rfl, q1810⟩, fun h => absurd h (by decide), fun h => absurd h (by decide), fun h => absurd h (by decide)⟩, List.forall_mem_cons.mpr ⟨⟨by decide +kernel, q1814, fun _ => ⟨_, _, rfl, rfl, rfl, q1815⟩, fun h => absurd h (by decide), fun h => absurd h (by decide), fun h => absurd h (by decide)⟩, List.forall_mem_cons.mpr ⟨⟨by decide +kernel, q1845, fun h => absurd h (by decide), fun h => absurd h (by decide), fun h => absurd h (by decide), fun _ => List.forall_mem_cons.mpr ⟨⟨_, _, rfl, rfl, q1847, zlB qs50, rfl⟩, fun _ h => nomatch h⟩⟩, fun _ h => nomatch h⟩⟩⟩⟩⟩⟩⟩⟩⟩⟩⟩⟩⟩⟩⟩⟩⟩⟩⟩⟩⟩⟩⟩⟩⟩⟩⟩⟩⟩⟩⟩⟩⟩⟩⟩⟩⟩⟩⟩⟩
def zks_4 : List zK := [(4, 266, 1, ⟨"SecretBuyersModel", "wrong", "(I)V"⟩, 1, [(3, 90)], none),
  (4, 270, 1, ⟨"SecretBuyersModel", "isWord", "(I)Z"⟩, 1, [(3, 89)], none),
  (4, 273, 1, ⟨"SecretBuyersModel", "hasWord", "(I)Z"⟩, 1, [(3, 102)], none),
  (4, 282, 1, ⟨"SecretBuyersModel", "cutAll", "()V"⟩, 0, [(3, 83)], none),
  (4, 288, 1, ⟨"SecretBuyersModel", "readLine", "()V"⟩, 0, [(3, 88)], none),
  (4, 291, 1, ⟨"SecretBuyersModel", "keeps", "(II)V"⟩, 2, [(3, 107)], none),
  (4, 298, 1, ⟨"SecretBuyersModel", "readLet", "(I)V"⟩, 1, [(3, 91)], none),
  (4, 301, 1, ⟨"SecretBuyersModel", "takeNumber", "(I)I"⟩, 1, [(3, 104)], none),
  (4, 304, 1, ⟨"SecretBuyersModel", "readTests", "()I"⟩, 0, [(3, 96)], none),
  (4, 308, 1, ⟨"SecretBuyersModel", "takeWord", "(I)V"⟩, 1, [(3, 106)], none),
  (4, 311, 1, ⟨"SecretBuyersModel", "takeSign", "(I)V"⟩, 1, [(3, 94)], none),
  (4, 314, 1, ⟨"SecretBuyersModel", "isName", "()Z"⟩, 0, [(3, 92)], none),
  (4, 318, 1, ⟨"SecretBuyersModel", "findName", "()I"⟩, 0, [(3, 93)], none),
  (4, 321, 1, ⟨"SecretBuyersModel", "all", "(I)V"⟩, 1, [(3, 97)], none),
  (4, 324, 1, ⟨"SecretBuyersModel", "emit", "(II)V"⟩, 2, [(3, 103)], none),
  (4, 327, 1, ⟨"SecretBuyersModel", "test", "(I)V"⟩, 1, [(3, 98)], none),
  (4, 330, 1, ⟨"SecretBuyersModel", "sums", "(I)V"⟩, 1, [(3, 99)], none),
  (4, 333, 1, ⟨"SecretBuyersModel", "hasSign", "(I)Z"⟩, 1, [(3, 105)], none),
  (4, 336, 1, ⟨"SecretBuyersModel", "products", "(I)V"⟩, 1, [(3, 100)], none),
  (4, 339, 1, ⟨"SecretBuyersModel", "takePart", "(I)V"⟩, 1, [(3, 101)], none),
  (4, 345, 0, ⟨"SecretBuyersModel", "both", "(III)I"⟩, 3, [(0, 133)], none),
  (4, 355, 1, ⟨"SecretBuyersModel", "worth", "(I)I"⟩, 1, [(3, 132)], none),
  (4, 358, 0, ⟨"SecretBuyersModel", "within", "(III)Z"⟩, 3, [(0, 109)], none),
  (4, 362, 0, ⟨"SecretBuyersModel", "isPlace", "(II)Z"⟩, 2, [(0, 112)], none),
  (4, 375, 1, ⟨"SecretBuyersModel", "isShop", "(I)Z"⟩, 1, [(3, 117)], none),
  (4, 378, 1, ⟨"SecretBuyersModel", "isBuyer", "(I)Z"⟩, 1, [(3, 118)], none),
  (4, 381, 1, ⟨"SecretBuyersModel", "visitsOf", "(II)I"⟩, 2, [(3, 119)], none),
  (4, 388, 1, ⟨"SecretBuyersModel", "viewDay", "()I"⟩, 0, [(3, 123)], none),
  (4, 391, 0, ⟨"SecretBuyersModel", "bits", "(I)I"⟩, 1, [(0, 129)], none),
  (4, 394, 1, ⟨"SecretBuyersModel", "isSeen", "(I)Z"⟩, 1, [(3, 122)], none),
  (4, 397, 1, ⟨"SecretBuyersModel", "isAhead", "(II)Z"⟩, 2, [(3, 125)], none),
  (4, 403, 1, ⟨"SecretBuyersModel", "latest", "(II)I"⟩, 2, [(3, 126)], none),
  (4, 406, 1, ⟨"SecretBuyersModel", "formNow", "(I)I"⟩, 1, [(3, 127)], none),
  (4, 409, 1, ⟨"SecretBuyersModel", "tells", "(III)V"⟩, 3, [(3, 128)], none),
  (4, 413, 1, ⟨"SecretBuyersModel", "briefOf", "(I)I"⟩, 1, [(3, 130)], none),
  (4, 416, 1, ⟨"SecretBuyersModel", "judges", "(I)V"⟩, 1, [(3, 131)], none),
  (4, 419, 1, ⟨"SecretBuyersModel", "isAlone", "(I)Z"⟩, 1, [(3, 134)], none),
  (4, 425, 1, ⟨"SecretBuyersModel", "findFewest", "(II)V"⟩, 2, [(3, 135)], none),
  (4, 431, 0, ⟨"SecretBuyersModel", "wayBetween", "(IIII)I"⟩, 4, [(0, 137)], none),
  (4, 438, 1, ⟨"SecretBuyersModel", "areBoth", "(II)Z"⟩, 2, [(3, 136)], none)]
set_option maxRecDepth 100000 in
theorem zks_4_ok : ∀ e ∈ zks_4, zKok e := List.forall_mem_cons.mpr ⟨⟨by decide +kernel, q1825, fun h => absurd h (by decide), fun h => absurd h (by decide), fun h => absurd h (by decide), fun _ => List.forall_mem_cons.mpr ⟨⟨_, _, rfl, rfl, q1827, zlB qs45, rfl⟩, fun _ h => nomatch h⟩⟩, List.forall_mem_cons.mpr ⟨⟨by decide +kernel, q1821, fun h => absurd h (by decide), fun h => absurd h (by decide), fun h => absurd h (by decide), fun _ => List.forall_mem_cons.mpr ⟨⟨_, _, rfl, rfl, q1823, zlB qs44, rfl⟩, fun _ h => nomatch h⟩⟩, List.forall_mem_cons.mpr ⟨⟨by decide +kernel, q1873, fun h => absurd h (by decide), fun h => absurd h (by decide), fun h => absurd h (by decide), fun _ => List.forall_mem_cons.mpr ⟨⟨_, _, rfl, rfl, q1875, zlB qs57, rfl⟩, fun _ h => nomatch h⟩⟩, List.forall_mem_cons.mpr ⟨⟨by decide +kernel, q1798, fun h => absurd h (by decide), fun h => absurd h (by decide), fun h => absurd h (by decide), fun _ => List.forall_mem_cons.mpr ⟨⟨_, _, rfl, rfl, q1800, zlB qs42, rfl⟩, fun _ h => nomatch h⟩⟩, List.forall_mem_cons.mpr ⟨⟨by decide +kernel, q1817, fun h => absurd h (by decide), fun h => absurd h (by decide), fun h => absurd h (by decide), fun _ => List.forall_mem_cons.mpr ⟨⟨_, _, rfl, rfl, q1819, zlB qs43, rfl⟩, fun _ h => nomatch h⟩⟩, List.forall_mem_cons.mpr ⟨⟨by decide +kernel, q1893, fun h => absurd h (by decide), fun h => absurd h (by decide), fun h => absurd h (by decide), fun _ => List.forall_mem_cons.mpr ⟨⟨_, _, rfl, rfl, q1895, zlB qs62, rfl⟩, fun _ h => nomatch h⟩⟩, List.forall_mem_cons.mpr ⟨⟨by decide +kernel, q1829, fun h => absurd h (by decide), fun h => absurd h (by decide), fun h => absurd h (by decide), fun _ => List.forall_mem_cons.mpr ⟨⟨_, _, rfl, rfl, q1831, zlB qs46, rfl⟩, fun _ h => nomatch h⟩⟩, List.forall_mem_cons.mpr ⟨⟨by decide +kernel, q1881, fun h => absurd h (by decide), fun h => absurd h (by decide), fun h => absurd h (by decide), fun _ => List.forall_mem_cons.mpr ⟨⟨_, _, rfl, rfl, q1883, zlB qs59, rfl⟩, fun _ h => nomatch h⟩⟩, List.forall_mem_cons.mpr ⟨⟨by decide +kernel, q1849, fun h => absurd h (by decide), fun h => absurd h (by decide), fun h => absurd h (by decide), fun _ => List.forall_mem_cons.mpr ⟨⟨_, _, rfl, rfl, q1851, zlB qs51, rfl⟩, fun _ h => nomatch h⟩⟩, List.forall_mem_cons.mpr ⟨⟨by decide +kernel, q1889, fun h => absurd h (by decide), fun h => absurd h (by decide), fun h => absurd h (by decide), fun _ => List.forall_mem_cons.mpr ⟨⟨_, _, rfl, rfl, q1891, zlB qs61, rfl⟩, fun _ h => nomatch h⟩⟩, List.forall_mem_cons.mpr ⟨⟨by decide +kernel, q1841, fun h => absurd h (by decide), fun h => absurd h (by decide), fun h => absurd h (by decide), fun _ => List.forall_mem_cons.mpr ⟨⟨_, _, rfl, rfl, q1843, zlB qs49, rfl⟩, fun _ h => nomatch h⟩⟩, List.forall_mem_cons.mpr ⟨⟨by decide +kernel, q1833, fun h => absurd h (by decide), fun h => absurd h (by decide), fun h => absurd h (by decide), fun _ => List.forall_mem_cons.mpr ⟨⟨_, _, rfl, rfl, q1835, zlB qs47, rfl⟩, fun _ h => nomatch h⟩⟩, List.forall_mem_cons.mpr ⟨⟨by decide +kernel, q1837, fun h => absurd h (by decide), fun h => absurd h (by decide), fun h => absurd h (by decide), fun _ => List.forall_mem_cons.mpr ⟨⟨_, _, rfl, rfl, q1839, zlB qs48, rfl⟩, fun _ h => nomatch h⟩⟩, List.forall_mem_cons.mpr ⟨⟨by decide +kernel, q1853, fun h => absurd h (by decide), fun h => absurd h (by decide), fun h => absurd h (by decide), fun _ => List.forall_mem_cons.mpr ⟨⟨_, _, rfl, rfl, q1855, zlB qs52, rfl⟩, fun _ h => nomatch h⟩⟩, List.forall_mem_cons.mpr ⟨⟨by decide +kernel, q1877, fun h => absurd h (by decide), fun h => absurd h (by decide), fun h => absurd h (by decide), fun _ => List.forall_mem_cons.mpr ⟨⟨_, _, rfl, rfl, q1879, zlB qs58, rfl⟩, fun _ h => nomatch h⟩⟩, List.forall_mem_cons.mpr ⟨⟨by decide +kernel, q1857, fun h => absurd h (by decide), fun h => absurd h (by decide), fun h => absurd h (by decide), fun _ => List.forall_mem_cons.mpr ⟨⟨_, _, rfl, rfl, q1859, zlB qs53, rfl⟩, fun _ h => nomatch h⟩⟩, List.forall_mem_cons.mpr ⟨⟨by decide +kernel, q1861, fun h => absurd h (by decide), fun h => absurd h (by decide), fun h => absurd h (by decide), fun _ => List.forall_mem_cons.mpr ⟨⟨_, _, rfl, rfl, q1863, zlB qs54, rfl⟩, fun _ h => nomatch h⟩⟩, List.forall_mem_cons.mpr ⟨⟨by decide +kernel, q1885, fun h => absurd h (by decide), fun h => absurd h (by decide), fun h => absurd h (by decide), fun _ => List.forall_mem_cons.mpr ⟨⟨_, _, rfl, rfl, q1887, zlB qs60, rfl⟩, fun _ h => nomatch h⟩⟩, List.forall_mem_cons.mpr ⟨⟨by decide +kernel, q1865, fun h => absurd h (by decide), fun h => absurd h (by decide), fun h => absurd h (by decide), fun _ => List.forall_mem_cons.mpr ⟨⟨_, _, rfl, rfl, q1867, zlB qs55, rfl⟩, fun _ h => nomatch h⟩⟩, List.forall_mem_cons.mpr ⟨⟨by decide +kernel, q1869, fun h => absurd h (by decide), fun h => absurd h (by decide), fun h => absurd h (by decide), fun _ => List.forall_mem_cons.mpr ⟨⟨_, _, rfl, rfl, q1871, zlB qs56, rfl⟩, fun _ h => nomatch h⟩⟩, List.forall_mem_cons.mpr ⟨⟨by decide +kernel, q1994, fun _ => ⟨_, _, rfl, rfl, rfl, q1995⟩, fun h => absurd h (by decide), fun h => absurd h (by decide), fun h => absurd h (by decide)⟩, List.forall_mem_cons.mpr ⟨⟨by decide +kernel, q1990, fun h => absurd h (by decide), fun h => absurd h (by decide), fun h => absurd h (by decide), fun _ => List.forall_mem_cons.mpr ⟨⟨_, _, rfl, rfl, q1992, zlB qs75, rfl⟩, fun _ h => nomatch h⟩⟩, List.forall_mem_cons.mpr ⟨⟨by decide +kernel, q1901, fun _ => ⟨_, _, rfl, rfl, rfl, q1902⟩, fun h => absurd h (by decide), fun h => absurd h (by decide), fun h => absurd h (by decide)⟩, List.forall_mem_cons.mpr ⟨⟨by decide +kernel, q1912, fun _ => ⟨_, _, rfl, rfl, rfl, q1913⟩, fun h => absurd h (by decide), fun h => absurd h (by decide), fun h => absurd h (by decide)⟩, List.forall_mem_cons.mpr ⟨⟨by decide +kernel, q1931, fun h => absurd h (by decide), fun h => absurd h (by decide), fun h => absurd h (by decide), fun _ => List.forall_mem_cons.mpr ⟨⟨_, _, rfl, rfl, q1933, zlB qs63, rfl⟩, fun _ h => nomatch h⟩⟩, List.forall_mem_cons.mpr ⟨⟨by decide +kernel, q1935, fun h => absurd h (by decide), fun h => absurd h (by decide), fun h => absurd h (by decide), fun _ => List.forall_mem_cons.mpr ⟨⟨_, _, rfl, rfl, q1937, zlB qs64, rfl⟩, fun _ h => nomatch h⟩⟩, List.forall_mem_cons.mpr ⟨⟨by decide +kernel, q1939, fun h => absurd h (by decide), fun h => absurd h (by decide), fun h => absurd h (by decide), fun _ => List.forall_mem_cons.mpr ⟨⟨_, _, rfl, rfl, q1941, zlB qs65, rfl⟩, fun _ h => nomatch h⟩⟩, List.forall_mem_cons.mpr ⟨⟨by decide +kernel, q1955, fun h => absurd h (by decide), fun h => absurd h (by decide), fun h => absurd h (by decide), fun _ => List.forall_mem_cons.mpr ⟨⟨_, _, rfl, rfl, q1957, zlB qs67, rfl⟩, fun _ h => nomatch h⟩⟩, List.forall_mem_cons.mpr ⟨⟨by decide +kernel, q1979, fun _ => ⟨_, _, rfl, rfl, rfl, q1980⟩, fun h => absurd h (by decide), fun h => absurd h (by decide), fun h => absurd h (by decide)⟩, List.forall_mem_cons.mpr ⟨⟨by decide +kernel, q1951, fun h => absurd h (by decide), fun h => absurd h (by decide), fun h => absurd h (by decide), fun _ => List.forall_mem_cons.mpr ⟨⟨_, _, rfl, rfl, q1953, zlB qs66, rfl⟩, fun _ h => nomatch h⟩⟩, List.forall_mem_cons.mpr ⟨⟨by decide +kernel, q1963, fun h => absurd h (by decide), fun h => absurd h (by decide), fun h => absurd h (by decide), fun _ => List.forall_mem_cons.mpr ⟨⟨_, _, rfl, rfl, q1965, zlB qs69, rfl⟩, fun _ h => nomatch h⟩⟩, List.forall_mem_cons.mpr ⟨⟨by decide +kernel, q1967, fun h => absurd h (by decide), fun h => absurd h (by decide), fun h => absurd h (by decide), fun _ => List.forall_mem_cons.mpr ⟨⟨_, _, rfl, rfl, q1969, zlB qs70, rfl⟩, fun _ h => nomatch h⟩⟩, List.forall_mem_cons.mpr ⟨⟨by decide +kernel, q1971, fun h => absurd h (by decide), fun h => absurd h (by decide), fun h => absurd h (by decide), fun _ => List.forall_mem_cons.mpr ⟨⟨_, _, rfl, rfl, q1973, zlB qs71, rfl⟩, fun _ h => nomatch h⟩⟩, List.forall_mem_cons.mpr ⟨⟨by decide +kernel, q1975, fun h => absurd h (by decide), fun h => absurd h (by decide), fun h => absurd h (by decide), fun _ => List.forall_mem_cons.mpr ⟨⟨_, _, rfl, rfl, q1977, zlB qs72, rfl⟩, fun _ h => nomatch h⟩⟩, List.forall_mem_cons.mpr ⟨⟨by decide +kernel, q1982, fun h => absurd h (by decide), fun h => absurd h (by decide), fun h => absurd h (by decide), fun _ => List.forall_mem_cons.mpr ⟨⟨_, _, rfl, rfl, q1984, zlB qs73, rfl⟩, fun _ h => nomatch h⟩⟩, List.forall_mem_cons.mpr ⟨⟨by decide +kernel, q1986, fun h => absurd h (by decide), fun h => absurd h (by decide), fun h => absurd h (by decide), fun _ => List.forall_mem_cons.mpr ⟨⟨_, _, rfl, rfl, q1988, zlB qs74, rfl⟩, fun _ h => nomatch h⟩⟩, List.forall_mem_cons.mpr ⟨⟨by decide +kernel, q1997, fun h => absurd h (by decide), fun h => absurd h (by decide), fun h => absurd h (by decide), fun _ => List.forall_mem_cons.mpr ⟨⟨_, _, rfl, rfl, q1999, zlB qs76, rfl⟩, fun _ h => nomatch h⟩⟩, List.forall_mem_cons.mpr ⟨⟨by decide +kernel, q2001, fun h => absurd h (by decide), fun h => absurd h (by decide), fun h => absurd h (by decide), fun _ => List.forall_mem_cons.mpr ⟨⟨_, _, rfl, rfl, q2003, zlB qs77, rfl⟩, fun _ h => nomatch h⟩⟩, List.forall_mem_cons.mpr ⟨⟨by decide +kernel, q2009, fun _ => ⟨_, _, rfl, rfl, rfl, q2010⟩, fun h => absurd h (by decide), fun h => absurd h (by decide), fun h => absurd h (by decide)⟩, List.forall_mem_cons.mpr ⟨⟨by decide +kernel, q2005, fun h => absurd h (by decide), fun h => absurd h (by decide), fun h => absurd h (by decide), fun _ => List.forall_mem_cons.mpr ⟨⟨_, _, rfl, rfl, q2007, zlB qs78, rfl⟩, fun _ h => nomatch h⟩⟩, fun _ h => nomatch h⟩⟩⟩⟩⟩⟩⟩⟩⟩⟩⟩⟩⟩⟩⟩⟩⟩⟩⟩⟩⟩⟩⟩⟩⟩⟩⟩⟩⟩⟩⟩⟩⟩⟩⟩⟩⟩⟩⟩⟩
def zks_5 : List zK := [(4, 444, 1, ⟨"SecretBuyersModel", "doesDo", "(I)Z"⟩, 1, [(3, 138)], none),
  (4, 447, 0, ⟨"SecretBuyersModel", "isFirst", "(II)Z"⟩, 2, [(0, 139)], none),
  (4, 450, 1, ⟨"SecretBuyersModel", "findAll", "()V"⟩, 0, [(3, 124)], none),
  (4, 453, 1, ⟨"SecretBuyersModel", "counts", "(I)Z"⟩, 1, [(3, 140)], none),
  (4, 456, 0, ⟨"SecretBuyersModel", "isDay", "(I)Z"⟩, 1, [(0, 142)], none),
  (4, 459, 1, ⟨"SecretBuyersModel", "isMeeting", "(II)Z"⟩, 2, [(3, 146)], none),
  (4, 462, 1, ⟨"SecretBuyersModel", "findLeans", "()V"⟩, 0, [(3, 145)], none),
  (4, 465, 1, ⟨"SecretBuyersModel", "fairOf", "(I)I"⟩, 1, [(3, 147)], none),
  (4, 468, 0, ⟨"SecretBuyersModel", "areDays", "(II)Z"⟩, 2, [(0, 152)], none),
  (4, 471, 1, ⟨"SecretBuyersModel", "findMeans", "(II)V"⟩, 2, [(3, 153)], none),
  (4, 474, 1, ⟨"SecretBuyersModel", "hasMean", "(III)Z"⟩, 3, [(3, 151)], none),
  (4, 477, 1, ⟨"SecretBuyersModel", "doubtOf", "(I)I"⟩, 1, [(3, 155)], none),
  (4, 480, 1, ⟨"SecretBuyersModel", "areTwo", "(IIII)Z"⟩, 4, [(3, 157)], none),
  (4, 484, 1, ⟨"SecretBuyersModel", "isLess", "(II)Z"⟩, 2, [(3, 158)], none),
  (4, 487, 1, ⟨"SecretBuyersModel", "mayGo", "(III)Z"⟩, 3, [(3, 162)], none),
  (4, 491, 1, ⟨"SecretBuyersModel", "wayOf", "(II)I"⟩, 2, [(3, 165)], none),
  (4, 494, 1, ⟨"SecretBuyersModel", "sumBy", "(III)I"⟩, 3, [(3, 166)], none),
  (4, 497, 1, ⟨"SecretBuyersModel", "gives", "(II)I"⟩, 2, [(3, 164)], none),
  (6, 16, 0, ⟨"java/lang/Math", "abs", "(I)I"⟩, 1, [(0, 231)], none),
  (7, 45, 1, ⟨"SecretBuyers$Visit", "behind", "()I"⟩, 0, [(6, 176)], none),
  (7, 55, 1, ⟨"SecretBuyers$Visit", "isAheadOf", "(LSecretBuyers$Visit;)Z"⟩, 1, [(6, 177)], none),
  (7, 63, 1, ⟨"SecretBuyers$Place", "way", "(LSecretBuyers$Place;)I"⟩, 1, [(5, 173)], none),
  (7, 76, 1, ⟨"SecretBuyers$Visit", "counts", "()Z"⟩, 0, [(6, 180)], none),
  (9, 11, 2, ⟨"java/util/ArrayList", "<init>", "(I)V"⟩, 1, [(0, 213)], none),
  (9, 36, 1, ⟨"SecretBuyers$Ask", "be", "(LSecretBuyers$Visit;I)V"⟩, 2, [(2, 77)], none),
  (9, 42, 1, ⟨"java/util/ArrayList", "size", "()I"⟩, 0, [(18, 214)], none),
  (9, 50, 1, ⟨"java/util/ArrayList", "get", "(I)Ljava/lang/Object;"⟩, 1, [(18, 219)], none),
  (9, 56, 1, ⟨"SecretBuyers$Exp", "value", "(LSecretBuyers$Ask;)I"⟩, 1, [(10, 189), (11, 191), (12, 193), (13, 195), (14, 198)], some "SecretBuyers$Exp"),
  (9, 62, 1, ⟨"SecretBuyers$Line", "fails", "(LSecretBuyers$Ask;)Z"⟩, 1, [(15, 206), (16, 202), (17, 202)], some "SecretBuyers$Line"),
  (9, 66, 1, ⟨"SecretBuyers$Brief", "asks", "(LSecretBuyers$Ask;LSecretBuyers$Visit;I)Z"⟩, 3, [(8, 184)], none),
  (9, 70, 1, ⟨"SecretBuyers$Line", "holds", "(LSecretBuyers$Ask;)Z"⟩, 1, [(15, 201), (16, 201), (17, 201)], some "SecretBuyers$Line"),
  (9, 73, 1, ⟨"SecretBuyers$Line", "adds", "(LSecretBuyers$Ask;)I"⟩, 1, [(15, 203), (16, 208), (17, 203)], some "SecretBuyers$Line"),
  (9, 76, 0, ⟨"java/lang/Math", "min", "(II)I"⟩, 2, [(0, 230)], none),
  (9, 82, 0, ⟨"java/lang/Math", "max", "(II)I"⟩, 2, [(0, 229)], none),
  (9, 85, 1, ⟨"SecretBuyers$Line", "bonus", "()I"⟩, 0, [(15, 204), (16, 204), (17, 210)], some "SecretBuyers$Line"),
  (10, 1, 2, ⟨"java/lang/RuntimeException", "<init>", "(Ljava/lang/String;Ljava/lang/Throwable;ZZ)V"⟩, 4, [(0, 286)], none),
  (12, 1, 3, ⟨"SecretBuyers$Exp", "<init>", "()V"⟩, 0, [(0, 187)], none),
  (13, 1, 3, ⟨"SecretBuyers$Exp", "<init>", "()V"⟩, 0, [(0, 187)], none),
  (14, 1, 3, ⟨"SecretBuyers$Exp", "<init>", "()V"⟩, 0, [(0, 187)], none),
  (15, 1, 3, ⟨"SecretBuyers$Exp", "<init>", "()V"⟩, 0, [(0, 187)], none)]
set_option maxRecDepth 100000 in
theorem zks_5_ok : ∀ e ∈ zks_5, zKok e := List.forall_mem_cons.mpr ⟨⟨by decide +kernel, q2012, fun h => absurd h (by decide), fun h => absurd h (by decide), fun h => absurd h (by decide), fun _ => List.forall_mem_cons.mpr ⟨⟨_, _, rfl, rfl, q2014, zlB qs79, rfl⟩, fun _ h => nomatch h⟩⟩, List.forall_mem_cons.mpr ⟨⟨by decide +kernel, q2016, fun _ => ⟨_, _, rfl, rfl, rfl, q2017⟩, fun h => absurd h (by decide), fun h => absurd h (by decide), fun h => absurd h (by decide)⟩, List.forall_mem_cons.mpr ⟨⟨by decide +kernel, q1959, fun h => absurd h (by decide), fun h => absurd h (by decide), fun h => absurd h (by decide), fun _ => List.forall_mem_cons.mpr ⟨⟨_, _, rfl, rfl, q1961, zlB qs68, rfl⟩, fun _ h => nomatch h⟩⟩, List.forall_mem_cons.mpr ⟨⟨by decide +kernel, q2019, fun h => absurd h (by decide), fun h => absurd h (by decide), fun h => absurd h (by decide), fun _ => List.forall_mem_cons.mpr ⟨⟨_, _, rfl, rfl, q2021, zlB qs80, rfl⟩, fun _ h => nomatch h⟩⟩, List.forall_mem_cons.mpr ⟨⟨by decide +kernel, q2027, fun _ => ⟨_, _, rfl, rfl, rfl, q2028⟩, fun h => absurd h (by decide), fun h => absurd h (by decide), fun h => absurd h (by decide)⟩, List.forall_mem_cons.mpr ⟨⟨by decide +kernel, q2042, fun h => absurd h (by decide), fun h => absurd h (by decide), fun h => absurd h (by decide), fun _ => List.forall_mem_cons.mpr ⟨⟨_, _, rfl, rfl, q2044, zlB qs82, rfl⟩, fun _ h => nomatch h⟩⟩, List.forall_mem_cons.mpr ⟨⟨by decide +kernel, q2038, fun h => absurd h (by decide), fun h => absurd h (by decide), fun h => absurd h (by decide), fun _ => List.forall_mem_cons.mpr ⟨⟨_, _, rfl, rfl, q2040, zlB qs81, rfl⟩, fun _ h => nomatch h⟩⟩, List.forall_mem_cons.mpr ⟨⟨by decide +kernel, q2046, fun h => absurd h (by decide), fun h => absurd h (by decide), fun h => absurd h (by decide), fun _ => List.forall_mem_cons.mpr ⟨⟨_, _, rfl, rfl, q2048, zlB qs83, rfl⟩, fun _ h => nomatch h⟩⟩, List.forall_mem_cons.mpr ⟨⟨by decide +kernel, q2066, fun _ => ⟨_, _, rfl, rfl, rfl, q2067⟩, fun h => absurd h (by decide), fun h => absurd h (by decide), fun h => absurd h (by decide)⟩, List.forall_mem_cons.mpr ⟨⟨by decide +kernel, q2069, fun h => absurd h (by decide), fun h => absurd h (by decide), fun h => absurd h (by decide), fun _ => List.forall_mem_cons.mpr ⟨⟨_, _, rfl, rfl, q2071, zlB qs85, rfl⟩, fun _ h => nomatch h⟩⟩, List.forall_mem_cons.mpr ⟨⟨by decide +kernel, q2062, fun h => absurd h (by decide), fun h => absurd h (by decide), fun h => absurd h (by decide), fun _ => List.forall_mem_cons.mpr ⟨⟨_, _, rfl, rfl, q2064, zlB qs84, rfl⟩, fun _ h => nomatch h⟩⟩, List.forall_mem_cons.mpr ⟨⟨by decide +kernel, q2077, fun h => absurd h (by decide), fun h => absurd h (by decide), fun h => absurd h (by decide), fun _ => List.forall_mem_cons.mpr ⟨⟨_, _, rfl, rfl, q2079, zlB qs86, rfl⟩, fun _ h => nomatch h⟩⟩, List.forall_mem_cons.mpr ⟨⟨by decide +kernel, q2085, fun h => absurd h (by decide), fun h => absurd h (by decide), fun h => absurd h (by decide), fun _ => List.forall_mem_cons.mpr ⟨⟨_, _, rfl, rfl, q2087, zlB qs87, rfl⟩, fun _ h => nomatch h⟩⟩, List.forall_mem_cons.mpr ⟨⟨by decide +kernel, q2089, fun h => absurd h (by decide), fun h => absurd h (by decide), fun h => absurd h (by decide), fun _ => List.forall_mem_cons.mpr ⟨⟨_, _, rfl, rfl, q2091, zlB qs88, rfl⟩, fun _ h => nomatch h⟩⟩, List.forall_mem_cons.mpr ⟨⟨by decide +kernel, q2105, fun h => absurd h (by decide), fun h => absurd h (by decide), fun h => absurd h (by decide), fun _ => List.forall_mem_cons.mpr ⟨⟨_, _, rfl, rfl, q2107, zlB qs89, rfl⟩, fun _ h => nomatch h⟩⟩, List.forall_mem_cons.mpr ⟨⟨by decide +kernel, q2117, fun h => absurd h (by decide), fun h => absurd h (by decide), fun h => absurd h (by decide), fun _ => List.forall_mem_cons.mpr ⟨⟨_, _, rfl, rfl, q2119, zlB qs91, rfl⟩, fun _ h => nomatch h⟩⟩, List.forall_mem_cons.mpr ⟨⟨by decide +kernel, q2122, fun h => absurd h (by decide), fun h => absurd h (by decide), fun h => absurd h (by decide), fun _ => List.forall_mem_cons.mpr ⟨⟨_, _, rfl, rfl, q2124, zlB qs92, rfl⟩, fun _ h => nomatch h⟩⟩, List.forall_mem_cons.mpr ⟨⟨by decide +kernel, q2113, fun h => absurd h (by decide), fun h => absurd h (by decide), fun h => absurd h (by decide), fun _ => List.forall_mem_cons.mpr ⟨⟨_, _, rfl, rfl, q2115, zlB qs90, rfl⟩, fun _ h => nomatch h⟩⟩, List.forall_mem_cons.mpr ⟨⟨by decide +kernel, q1350, fun _ => ⟨_, _, rfl, rfl, rfl, q1351⟩, fun h => absurd h (by decide), fun h => absurd h (by decide), fun h => absurd h (by decide)⟩, List.forall_mem_cons.mpr ⟨⟨by decide +kernel, q1211, fun h => absurd h (by decide), fun h => absurd h (by decide), fun h => absurd h (by decide), fun _ => List.forall_mem_cons.mpr ⟨⟨_, _, rfl, rfl, q1212, zlB q1213, rfl⟩, fun _ h => nomatch h⟩⟩, List.forall_mem_cons.mpr ⟨⟨by decide +kernel, q1345, fun h => absurd h (by decide), fun h => absurd h (by decide), fun h => absurd h (by decide), fun _ => List.forall_mem_cons.mpr ⟨⟨_, _, rfl, rfl, q1217, zlB q1218, rfl⟩, fun _ h => nomatch h⟩⟩, List.forall_mem_cons.mpr ⟨⟨by decide +kernel, q1346, fun h => absurd h (by decide), fun h => absurd h (by decide), fun h => absurd h (by decide), fun _ => List.forall_mem_cons.mpr ⟨⟨_, _, rfl, rfl, q1347, zlB q1348, rfl⟩, fun _ h => nomatch h⟩⟩, List.forall_mem_cons.mpr ⟨⟨by decide +kernel, q1366, fun h => absurd h (by decide), fun h => absurd h (by decide), fun h => absurd h (by decide), fun _ => List.forall_mem_cons.mpr ⟨⟨_, _, rfl, rfl, q1367, zlB q1368, rfl⟩, fun _ h => nomatch h⟩⟩, List.forall_mem_cons.mpr ⟨⟨by decide +kernel, q614, fun h => absurd h (by decide), fun _ => ⟨rfl, _, _, rfl, rfl, rfl, rfl, q145⟩, fun h => absurd h (by decide), fun h => absurd h (by decide)⟩, List.forall_mem_cons.mpr ⟨⟨by decide +kernel, q1241, fun h => absurd h (by decide), fun h => absurd h (by decide), fun h => absurd h (by decide), fun _ => List.forall_mem_cons.mpr ⟨⟨_, _, rfl, rfl, q1242, zlB q1243, rfl⟩, fun _ h => nomatch h⟩⟩, List.forall_mem_cons.mpr ⟨⟨by decide +kernel, q1251, fun h => absurd h (by decide), fun h => absurd h (by decide), fun h => absurd h (by decide), fun _ => List.forall_mem_cons.mpr ⟨⟨_, _, rfl, rfl, q342, zlB q343, rfl⟩, fun _ h => nomatch h⟩⟩, List.forall_mem_cons.mpr ⟨⟨by decide +kernel, q1252, fun h => absurd h (by decide), fun h => absurd h (by decide), fun h => absurd h (by decide), fun _ => List.forall_mem_cons.mpr ⟨⟨_, _, rfl, rfl, q483, zlB q484, rfl⟩, fun _ h => nomatch h⟩⟩, List.forall_mem_cons.mpr ⟨⟨by decide +kernel, q1254, fun h => absurd h (by decide), fun h => absurd h (by decide), fun h => absurd h (by decide), fun _ => List.forall_mem_cons.mpr ⟨⟨_, _, rfl, rfl, q1258, zlB q1257, ⟨q1256, ⟨by decide, by decide⟩, Or.inl q1255⟩⟩, List.forall_mem_cons.mpr ⟨⟨_, _, rfl, rfl, q1264, zlB q1263, ⟨q1256, ⟨by decide, by decide⟩, Or.inl q1255⟩⟩, List.forall_mem_cons.mpr ⟨⟨_, _, rfl, rfl, q1261, zlB q1260, ⟨q1256, ⟨by decide, by decide⟩, Or.inl q1255⟩⟩, List.forall_mem_cons.mpr ⟨⟨_, _, rfl, rfl, q1267, zlB q1266, ⟨q1256, ⟨by decide, by decide⟩, Or.inl q1255⟩⟩, List.forall_mem_cons.mpr ⟨⟨_, _, rfl, rfl, q1270, zlB q1289, ⟨q1256, ⟨by decide, by decide⟩, Or.inl q1255⟩⟩, fun _ h => nomatch h⟩⟩⟩⟩⟩⟩, List.forall_mem_cons.mpr ⟨⟨by decide +kernel, q1291, fun h => absurd h (by decide), fun h => absurd h (by decide), fun h => absurd h (by decide), fun _ => List.forall_mem_cons.mpr ⟨⟨_, _, rfl, rfl, q1297, zlB q1296, ⟨q1293, ⟨by decide, by decide⟩, Or.inr ⟨_, List.mem_of_getElem? (i := 202) rfl, rfl, q1292, rfl⟩⟩⟩, List.forall_mem_cons.mpr ⟨⟨_, _, rfl, rfl, q1292, zlB q1294, ⟨q1293, ⟨by decide, by decide⟩, Or.inr ⟨_, List.mem_of_getElem? (i := 202) rfl, rfl, q1292, rfl⟩⟩⟩, List.forall_mem_cons.mpr ⟨⟨_, _, rfl, rfl, q1292, zlB q1295, ⟨q1293, ⟨by decide, by decide⟩, Or.inr ⟨_, List.mem_of_getElem? (i := 202) rfl, rfl, q1292, rfl⟩⟩⟩, fun _ h => nomatch h⟩⟩⟩⟩, List.forall_mem_cons.mpr ⟨⟨by decide +kernel, q1237, fun h => absurd h (by decide), fun h => absurd h (by decide), fun h => absurd h (by decide), fun _ => List.forall_mem_cons.mpr ⟨⟨_, _, rfl, rfl, q1239, zlB qs29, rfl⟩, fun _ h => nomatch h⟩⟩, List.forall_mem_cons.mpr ⟨⟨by decide +kernel, q1307, fun h => absurd h (by decide), fun h => absurd h (by decide), fun h => absurd h (by decide), fun _ => List.forall_mem_cons.mpr ⟨⟨_, _, rfl, rfl, q1303, zlB q2156, ⟨q2153, ⟨by decide, by decide⟩, Or.inl q1301⟩⟩, List.forall_mem_cons.mpr ⟨⟨_, _, rfl, rfl, q1303, zlB q2154, ⟨q2153, ⟨by decide, by decide⟩, Or.inl q1301⟩⟩, List.forall_mem_cons.mpr ⟨⟨_, _, rfl, rfl, q1303, zlB q2155, ⟨q2153, ⟨by decide, by decide⟩, Or.inl q1301⟩⟩, fun _ h => nomatch h⟩⟩⟩⟩, List.forall_mem_cons.mpr ⟨⟨by decide +kernel, q1308, fun h => absurd h (by decide), fun h => absurd h (by decide), fun h => absurd h (by decide), fun _ => List.forall_mem_cons.mpr ⟨⟨_, _, rfl, rfl, q1309, zlB q1316, ⟨q1310, ⟨by decide, by decide⟩, Or.inr ⟨_, List.mem_of_getElem? (i := 203) rfl, rfl, q1309, rfl⟩⟩⟩, List.forall_mem_cons.mpr ⟨⟨_, _, rfl, rfl, q1312, zlB q1311, ⟨q1310, ⟨by decide, by decide⟩, Or.inr ⟨_, List.mem_of_getElem? (i := 203) rfl, rfl, q1309, rfl⟩⟩⟩, List.forall_mem_cons.mpr ⟨⟨_, _, rfl, rfl, q1309, zlB q1315, ⟨q1310, ⟨by decide, by decide⟩, Or.inr ⟨_, List.mem_of_getElem? (i := 203) rfl, rfl, q1309, rfl⟩⟩⟩, fun _ h => nomatch h⟩⟩⟩⟩, List.forall_mem_cons.mpr ⟨⟨by decide +kernel, q1318, fun _ => ⟨_, _, rfl, rfl, rfl, q452⟩, fun h => absurd h (by decide), fun h => absurd h (by decide), fun h => absurd h (by decide)⟩, List.forall_mem_cons.mpr ⟨⟨by decide +kernel, q1319, fun _ => ⟨_, _, rfl, rfl, rfl, q411⟩, fun h => absurd h (by decide), fun h => absurd h (by decide), fun h => absurd h (by decide)⟩, List.forall_mem_cons.mpr ⟨⟨by decide +kernel, q1324, fun h => absurd h (by decide), fun h => absurd h (by decide), fun h => absurd h (by decide), fun _ => List.forall_mem_cons.mpr ⟨⟨_, _, rfl, rfl, q1325, zlB q1331, ⟨q1326, ⟨by decide, by decide⟩, Or.inr ⟨_, List.mem_of_getElem? (i := 204) rfl, rfl, q1325, rfl⟩⟩⟩, List.forall_mem_cons.mpr ⟨⟨_, _, rfl, rfl, q1325, zlB q1327, ⟨q1326, ⟨by decide, by decide⟩, Or.inr ⟨_, List.mem_of_getElem? (i := 204) rfl, rfl, q1325, rfl⟩⟩⟩, List.forall_mem_cons.mpr ⟨⟨_, _, rfl, rfl, q1329, zlB q1328, ⟨q1326, ⟨by decide, by decide⟩, Or.inr ⟨_, List.mem_of_getElem? (i := 204) rfl, rfl, q1325, rfl⟩⟩⟩, fun _ h => nomatch h⟩⟩⟩⟩, List.forall_mem_cons.mpr ⟨⟨by decide +kernel, q813, fun h => absurd h (by decide), fun _ => ⟨rfl, _, _, rfl, rfl, rfl, rfl, q814⟩, fun h => absurd h (by decide), fun h => absurd h (by decide)⟩, List.forall_mem_cons.mpr ⟨⟨by decide +kernel, q1080, fun h => absurd h (by decide), fun _ => ⟨rfl, _, _, rfl, rfl, rfl, rfl, q1081⟩, fun h => absurd h (by decide), fun h => absurd h (by decide)⟩, List.forall_mem_cons.mpr ⟨⟨by decide +kernel, q1093, fun h => absurd h (by decide), fun _ => ⟨rfl, _, _, rfl, rfl, rfl, rfl, q1081⟩, fun h => absurd h (by decide), fun h => absurd h (by decide)⟩, List.forall_mem_cons.mpr ⟨⟨by decide +kernel, q1103, fun h => absurd h (by decide), fun _ => ⟨rfl, _, _, rfl, rfl, rfl, rfl, q1081⟩, fun h => absurd h (by decide), fun h => absurd h (by decide)⟩, List.forall_mem_cons.mpr ⟨⟨by decide +kernel, q1113, fun h => absurd h (by decide), fun _ => ⟨rfl, _, _, rfl, rfl, rfl, rfl, q1081⟩, fun h => absurd h (by decide), fun h => absurd h (by decide)⟩, fun _ h => nomatch h⟩⟩⟩⟩⟩⟩⟩⟩⟩⟩⟩⟩⟩⟩⟩⟩⟩⟩⟩⟩⟩⟩⟩⟩⟩⟩⟩⟩⟩⟩⟩⟩⟩⟩⟩⟩⟩⟩⟩⟩
def zks_6 : List zK := [(15, 13, 1, ⟨"SecretBuyers$Exp", "value", "(LSecretBuyers$Ask;)I"⟩, 1, [(10, 189), (11, 191), (12, 193), (13, 195), (14, 198)], some "SecretBuyers$Exp"),
  (16, 1, 3, ⟨"SecretBuyers$Exp", "<init>", "()V"⟩, 0, [(0, 187)], none),
  (16, 9, 2, ⟨"java/util/ArrayList", "<init>", "(I)V"⟩, 1, [(0, 213)], none),
  (16, 20, 2, ⟨"java/lang/StringBuilder", "<init>", "(I)V"⟩, 1, [(0, 297)], none),
  (16, 25, 1, ⟨"java/util/ArrayList", "add", "(Ljava/lang/Object;)Z"⟩, 1, [(18, 215)], none),
  (16, 29, 1, ⟨"java/lang/StringBuilder", "append", "(C)Ljava/lang/StringBuilder;"⟩, 1, [(20, 298)], none),
  (16, 33, 1, ⟨"java/util/ArrayList", "get", "(I)Ljava/lang/Object;"⟩, 1, [(18, 219)], none),
  (16, 37, 1, ⟨"SecretBuyers$Exp", "value", "(LSecretBuyers$Ask;)I"⟩, 1, [(10, 189), (11, 191), (12, 193), (13, 195), (14, 198)], some "SecretBuyers$Exp"),
  (16, 41, 1, ⟨"java/util/ArrayList", "size", "()I"⟩, 0, [(18, 214)], none),
  (16, 45, 1, ⟨"java/lang/StringBuilder", "charAt", "(I)C"⟩, 1, [(20, 301)], none),
  (16, 49, 0, ⟨"SecretBuyers$Row", "worked", "(CII)I"⟩, 3, [(0, 199)], none),
  (17, 15, 1, ⟨"SecretBuyers$Exp", "value", "(LSecretBuyers$Ask;)I"⟩, 1, [(10, 189), (11, 191), (12, 193), (13, 195), (14, 198)], some "SecretBuyers$Exp"),
  (18, 1, 2, ⟨"SecretBuyers$Line", "<init>", "(LSecretBuyers$Exp;)V"⟩, 1, [(0, 200)], none),
  (18, 7, 1, ⟨"SecretBuyers$Must", "holds", "(LSecretBuyers$Ask;)Z"⟩, 1, [(15, 201)], some "SecretBuyers$Line"),
  (19, 1, 2, ⟨"SecretBuyers$Line", "<init>", "(LSecretBuyers$Exp;)V"⟩, 1, [(0, 200)], none),
  (19, 13, 1, ⟨"SecretBuyers$Exp", "value", "(LSecretBuyers$Ask;)I"⟩, 1, [(10, 189), (11, 191), (12, 193), (13, 195), (14, 198)], some "SecretBuyers$Exp"),
  (20, 1, 2, ⟨"SecretBuyers$Line", "<init>", "(LSecretBuyers$Exp;)V"⟩, 1, [(0, 200)], none),
  (22, 1, 2, ⟨"java/util/AbstractCollection", "<init>", "()V"⟩, 0, [(0, 211)], none),
  (23, 1, 2, ⟨"java/util/AbstractList", "<init>", "()V"⟩, 0, [(0, 212)], none),
  (23, 66, 0, ⟨"java/util/Arrays", "copyOf", "([Ljava/lang/Object;I)[Ljava/lang/Object;"⟩, 2, [(0, 232)], none),
  (23, 69, 1, ⟨"java/util/ArrayList", "grow", "(I)[Ljava/lang/Object;"⟩, 1, [(18, 218)], none),
  (23, 73, 0, ⟨"jdk/internal/util/ArraysSupport", "newLength", "(III)I"⟩, 3, [(0, 227)], none),
  (23, 79, 0, ⟨"java/lang/Math", "max", "(II)I"⟩, 2, [(0, 229)], none),
  (23, 85, 1, ⟨"java/util/ArrayList", "indexOf", "(Ljava/lang/Object;)I"⟩, 1, [(18, 222)], none),
  (23, 89, 1, ⟨"java/util/ArrayList", "indexOfRange", "(Ljava/lang/Object;II)I"⟩, 3, [(18, 223)], none),
  (23, 93, 1, ⟨"java/lang/Object", "equals", "(Ljava/lang/Object;)Z"⟩, 1, [(0, 304), (1, 304), (2, 304), (3, 304), (4, 304), (5, 304), (6, 304), (7, 304), (8, 304), (9, 304), (10, 304), (11, 304), (12, 304), (13, 304), (14, 304), (15, 304), (16, 304), (17, 304), (19, 253), (20, 304), (21, 253)], some "java/lang/Object"),
  (23, 118, 0, ⟨"java/util/Objects", "checkIndex", "(II)I"⟩, 2, [(0, 238)], none),
  (23, 123, 1, ⟨"java/util/ArrayList", "elementData", "(I)Ljava/lang/Object;"⟩, 1, [(18, 220)], none),
  (23, 129, 1, ⟨"java/util/ArrayList", "grow", "()[Ljava/lang/Object;"⟩, 0, [(18, 217)], none),
  (23, 131, 1, ⟨"java/util/ArrayList", "add", "(Ljava/lang/Object;[Ljava/lang/Object;I)V"⟩, 3, [(18, 216)], none),
  (23, 135, 1, ⟨"java/util/ArrayList", "rangeCheckForAdd", "(I)V"⟩, 1, [(18, 226)], none),
  (24, 194, 0, ⟨"java/lang/Math", "max", "(II)I"⟩, 2, [(0, 229)], none),
  (24, 201, 0, ⟨"jdk/internal/util/ArraysSupport", "hugeLength", "(II)I"⟩, 2, [(0, 228)], none),
  (26, 300, 0, ⟨"java/util/Arrays", "copyOf", "([Ljava/lang/Object;ILjava/lang/Class;)[Ljava/lang/Object;"⟩, 3, [(0, 233)], none),
  (26, 304, 0, ⟨"java/lang/Math", "min", "(II)I"⟩, 2, [(0, 230)], none),
  (26, 339, 0, ⟨"java/util/Arrays", "copyOfRangeByte", "([BII)[B"⟩, 3, [(0, 236)], none),
  (26, 343, 0, ⟨"java/util/Arrays", "checkLength", "(II)V"⟩, 2, [(0, 237)], none),
  (27, 105, 0, ⟨"jdk/internal/util/Preconditions", "checkIndex", "(IILjava/util/function/BiFunction;)I"⟩, 3, [(0, 239)], none),
  (29, 47, 0, ⟨"java/lang/StringUTF16", "coderFromArrayLen", "([BI)B"⟩, 2, [(0, 278)], none),
  (29, 54, 0, ⟨"java/util/Arrays", "copyOfRange", "([BII)[B"⟩, 3, [(0, 235)], none)]
set_option maxRecDepth 100000 in
theorem zks_6_ok : ∀ e ∈ zks_6, zKok e := List.forall_mem_cons.mpr ⟨⟨by decide +kernel, q1269, fun h => absurd h (by decide), fun h => absurd h (by decide), fun h => absurd h (by decide), fun _ => List.forall_mem_cons.mpr ⟨⟨_, _, rfl, rfl, q1258, zlB q1257, ⟨q1256, ⟨by decide, by decide⟩, Or.inl q1255⟩⟩, List.forall_mem_cons.mpr ⟨⟨_, _, rfl, rfl, q1264, zlB q1263, ⟨q1256, ⟨by decide, by decide⟩, Or.inl q1255⟩⟩, List.forall_mem_cons.mpr ⟨⟨_, _, rfl, rfl, q1261, zlB q1260, ⟨q1256, ⟨by decide, by decide⟩, Or.inl q1255⟩⟩, List.forall_mem_cons.mpr ⟨⟨_, _, rfl, rfl, q1267, zlB q1266, ⟨q1256, ⟨by decide, by decide⟩, Or.inl q1255⟩⟩, List.forall_mem_cons.mpr ⟨⟨_, _, rfl, rfl, q1270, zlB q1289, ⟨q1256, ⟨by decide, by decide⟩, Or.inl q1255⟩⟩, fun _ h => nomatch h⟩⟩⟩⟩⟩⟩, List.forall_mem_cons.mpr ⟨⟨by decide +kernel, q1123, fun h => absurd h (by decide), fun _ => ⟨rfl, _, _, rfl, rfl, rfl, rfl, q1081⟩, fun h => absurd h (by decide), fun h => absurd h (by decide)⟩, List.forall_mem_cons.mpr ⟨⟨by decide +kernel, q1125, fun h => absurd h (by decide), fun _ => ⟨rfl, _, _, rfl, rfl, rfl, rfl, q145⟩, fun h => absurd h (by decide), fun h => absurd h (by decide)⟩, List.forall_mem_cons.mpr ⟨⟨by decide +kernel, q1127, fun h => absurd h (by decide), fun _ => ⟨rfl, _, _, rfl, rfl, rfl, rfl, q852⟩, fun h => absurd h (by decide), fun h => absurd h (by decide)⟩, List.forall_mem_cons.mpr ⟨⟨by decide +kernel, q1128, fun h => absurd h (by decide), fun h => absurd h (by decide), fun h => absurd h (by decide), fun _ => List.forall_mem_cons.mpr ⟨⟨_, _, rfl, rfl, q390, zlB q391, rfl⟩, fun _ h => nomatch h⟩⟩, List.forall_mem_cons.mpr ⟨⟨by decide +kernel, q1140, fun h => absurd h (by decide), fun h => absurd h (by decide), fun h => absurd h (by decide), fun _ => List.forall_mem_cons.mpr ⟨⟨_, _, rfl, rfl, q880, zlB q881, rfl⟩, fun _ h => nomatch h⟩⟩, List.forall_mem_cons.mpr ⟨⟨by decide +kernel, q1272, fun h => absurd h (by decide), fun h => absurd h (by decide), fun h => absurd h (by decide), fun _ => List.forall_mem_cons.mpr ⟨⟨_, _, rfl, rfl, q483, zlB q484, rfl⟩, fun _ h => nomatch h⟩⟩, List.forall_mem_cons.mpr ⟨⟨by decide +kernel, q1274, fun h => absurd h (by decide), fun h => absurd h (by decide), fun h => absurd h (by decide), fun _ => List.forall_mem_cons.mpr ⟨⟨_, _, rfl, rfl, q1258, zlB q1257, ⟨q1256, ⟨by decide, by decide⟩, Or.inl q1255⟩⟩, List.forall_mem_cons.mpr ⟨⟨_, _, rfl, rfl, q1264, zlB q1263, ⟨q1256, ⟨by decide, by decide⟩, Or.inl q1255⟩⟩, List.forall_mem_cons.mpr ⟨⟨_, _, rfl, rfl, q1261, zlB q1260, ⟨q1256, ⟨by decide, by decide⟩, Or.inl q1255⟩⟩, List.forall_mem_cons.mpr ⟨⟨_, _, rfl, rfl, q1267, zlB q1266, ⟨q1256, ⟨by decide, by decide⟩, Or.inl q1255⟩⟩, List.forall_mem_cons.mpr ⟨⟨_, _, rfl, rfl, q1270, zlB q1289, ⟨q1256, ⟨by decide, by decide⟩, Or.inl q1255⟩⟩, fun _ h => nomatch h⟩⟩⟩⟩⟩⟩, List.forall_mem_cons.mpr ⟨⟨by decide +kernel, q1275, fun h => absurd h (by decide), fun h => absurd h (by decide), fun h => absurd h (by decide), fun _ => List.forall_mem_cons.mpr ⟨⟨_, _, rfl, rfl, q342, zlB q343, rfl⟩, fun _ h => nomatch h⟩⟩, List.forall_mem_cons.mpr ⟨⟨by decide +kernel, q1276, fun h => absurd h (by decide), fun h => absurd h (by decide), fun h => absurd h (by decide), fun _ => List.forall_mem_cons.mpr ⟨⟨_, _, rfl, rfl, q1277, zlB q1278, rfl⟩, fun _ h => nomatch h⟩⟩, List.forall_mem_cons.mpr ⟨⟨by decide +kernel, q1286, fun _ => ⟨_, _, rfl, rfl, rfl, q1287⟩, fun h => absurd h (by decide), fun h => absurd h (by decide), fun h => absurd h (by decide)⟩, List.forall_mem_cons.mpr ⟨⟨by decide +kernel, q1305, fun h => absurd h (by decide), fun h => absurd h (by decide), fun h => absurd h (by decide), fun _ => List.forall_mem_cons.mpr ⟨⟨_, _, rfl, rfl, q1258, zlB q1257, ⟨q1256, ⟨by decide, by decide⟩, Or.inl q1255⟩⟩, List.forall_mem_cons.mpr ⟨⟨_, _, rfl, rfl, q1264, zlB q1263, ⟨q1256, ⟨by decide, by decide⟩, Or.inl q1255⟩⟩, List.forall_mem_cons.mpr ⟨⟨_, _, rfl, rfl, q1261, zlB q1260, ⟨q1256, ⟨by decide, by decide⟩, Or.inl q1255⟩⟩, List.forall_mem_cons.mpr ⟨⟨_, _, rfl, rfl, q1267, zlB q1266, ⟨q1256, ⟨by decide, by decide⟩, Or.inl q1255⟩⟩, List.forall_mem_cons.mpr ⟨⟨_, _, rfl, rfl, q1270, zlB q1289, ⟨q1256, ⟨by decide, by decide⟩, Or.inl q1255⟩⟩, fun _ h => nomatch h⟩⟩⟩⟩⟩⟩, List.forall_mem_cons.mpr ⟨⟨by decide +kernel, q1148, fun h => absurd h (by decide), fun _ => ⟨rfl, _, _, rfl, rfl, rfl, rfl, q1149⟩, fun h => absurd h (by decide), fun h => absurd h (by decide)⟩, List.forall_mem_cons.mpr ⟨⟨by decide +kernel, q1299, fun h => absurd h (by decide), fun h => absurd h (by decide), fun h => absurd h (by decide), fun _ => List.forall_mem_cons.mpr ⟨⟨_, _, rfl, rfl, q1303, zlB q1302, ⟨q1300, ⟨by decide, by decide⟩, Or.inl q1301⟩⟩, fun _ h => nomatch h⟩⟩, List.forall_mem_cons.mpr ⟨⟨by decide +kernel, q1170, fun h => absurd h (by decide), fun _ => ⟨rfl, _, _, rfl, rfl, rfl, rfl, q1149⟩, fun h => absurd h (by decide), fun h => absurd h (by decide)⟩, List.forall_mem_cons.mpr ⟨⟨by decide +kernel, q1314, fun h => absurd h (by decide), fun h => absurd h (by decide), fun h => absurd h (by decide), fun _ => List.forall_mem_cons.mpr ⟨⟨_, _, rfl, rfl, q1258, zlB q1257, ⟨q1256, ⟨by decide, by decide⟩, Or.inl q1255⟩⟩, List.forall_mem_cons.mpr ⟨⟨_, _, rfl, rfl, q1264, zlB q1263, ⟨q1256, ⟨by decide, by decide⟩, Or.inl q1255⟩⟩, List.forall_mem_cons.mpr ⟨⟨_, _, rfl, rfl, q1261, zlB q1260, ⟨q1256, ⟨by decide, by decide⟩, Or.inl q1255⟩⟩, List.forall_mem_cons.mpr ⟨⟨_, _, rfl, rfl, q1267, zlB q1266, ⟨q1256, ⟨by decide, by decide⟩, Or.inl q1255⟩⟩, List.forall_mem_cons.mpr ⟨⟨_, _, rfl, rfl, q1270, zlB q1289, ⟨q1256, ⟨by decide, by decide⟩, Or.inl q1255⟩⟩, fun _ h => nomatch h⟩⟩⟩⟩⟩⟩, List.forall_mem_cons.mpr ⟨⟨by decide +kernel, q1181, fun h => absurd h (by decide), fun _ => ⟨rfl, _, _, rfl, rfl, rfl, rfl, q1149⟩, fun h => absurd h (by decide), fun h => absurd h (by decide)⟩, List.forall_mem_cons.mpr ⟨⟨by decide +kernel, q150, fun h => absurd h (by decide), fun _ => ⟨rfl, _, _, rfl, rfl, rfl, rfl, q151⟩, fun h => absurd h (by decide), fun h => absurd h (by decide)⟩, List.forall_mem_cons.mpr ⟨⟨by decide +kernel, q147, fun h => absurd h (by decide), fun _ => ⟨rfl, _, _, rfl, rfl, rfl, rfl, q148⟩, fun h => absurd h (by decide), fun h => absurd h (by decide)⟩, List.forall_mem_cons.mpr ⟨⟨by decide +kernel, q417, fun _ => ⟨_, _, rfl, rfl, rfl, q418⟩, fun h => absurd h (by decide), fun h => absurd h (by decide), fun h => absurd h (by decide)⟩, List.forall_mem_cons.mpr ⟨⟨by decide +kernel, q401, fun h => absurd h (by decide), fun h => absurd h (by decide), fun h => absurd h (by decide), fun _ => List.forall_mem_cons.mpr ⟨⟨_, _, rfl, rfl, q403, zlB qs3, rfl⟩, fun _ h => nomatch h⟩⟩, List.forall_mem_cons.mpr ⟨⟨by decide +kernel, q407, fun _ => ⟨_, _, rfl, rfl, rfl, q408⟩, fun h => absurd h (by decide), fun h => absurd h (by decide), fun h => absurd h (by decide)⟩, List.forall_mem_cons.mpr ⟨⟨by decide +kernel, q457, fun _ => ⟨_, _, rfl, rfl, rfl, q411⟩, fun h => absurd h (by decide), fun h => absurd h (by decide), fun h => absurd h (by decide)⟩, List.forall_mem_cons.mpr ⟨⟨by decide +kernel, q1000, fun h => absurd h (by decide), fun h => absurd h (by decide), fun h => absurd h (by decide), fun _ => List.forall_mem_cons.mpr ⟨⟨_, _, rfl, rfl, q1001, zlB q1002, rfl⟩, fun _ h => nomatch h⟩⟩, List.forall_mem_cons.mpr ⟨⟨by decide +kernel, q1004, fun h => absurd h (by decide), fun h => absurd h (by decide), fun h => absurd h (by decide), fun _ => List.forall_mem_cons.mpr ⟨⟨_, _, rfl, rfl, q1005, zlB q1006, rfl⟩, fun _ h => nomatch h⟩⟩, List.forall_mem_cons.mpr ⟨⟨by decide +kernel, q1009, fun h => absurd h (by decide), fun h => absurd h (by decide), fun h => absurd h (by decide), fun _ => List.forall_mem_cons.mpr ⟨⟨_, _, rfl, rfl, q1010, zlB q1012, ⟨q1011, ⟨by decide, by decide⟩, Or.inl q1008⟩⟩, List.forall_mem_cons.mpr ⟨⟨_, _, rfl, rfl, q1010, zlB q1024, ⟨q1011, ⟨by decide, by decide⟩, Or.inl q1008⟩⟩, List.forall_mem_cons.mpr ⟨⟨_, _, rfl, rfl, q1010, zlB q1016, ⟨q1011, ⟨by decide, by decide⟩, Or.inl q1008⟩⟩, List.forall_mem_cons.mpr ⟨⟨_, _, rfl, rfl, q1010, zlB q1029, ⟨q1011, ⟨by decide, by decide⟩, Or.inl q1008⟩⟩, List.forall_mem_cons.mpr ⟨⟨_, _, rfl, rfl, q1010, zlB q1026, ⟨q1011, ⟨by decide, by decide⟩, Or.inl q1008⟩⟩, List.forall_mem_cons.mpr ⟨⟨_, _, rfl, rfl, q1010, zlB q1023, ⟨q1011, ⟨by decide, by decide⟩, Or.inl q1008⟩⟩, List.forall_mem_cons.mpr ⟨⟨_, _, rfl, rfl, q1010, zlB q1027, ⟨q1011, ⟨by decide, by decide⟩, Or.inl q1008⟩⟩, List.forall_mem_cons.mpr ⟨⟨_, _, rfl, rfl, q1010, zlB q1015, ⟨q1011, ⟨by decide, by decide⟩, Or.inl q1008⟩⟩, List.forall_mem_cons.mpr ⟨⟨_, _, rfl, rfl, q1010, zlB q1018, ⟨q1011, ⟨by decide, by decide⟩, Or.inl q1008⟩⟩, List.forall_mem_cons.mpr ⟨⟨_, _, rfl, rfl, q1010, zlB q1028, ⟨q1011, ⟨by decide, by decide⟩, Or.inl q1008⟩⟩, List.forall_mem_cons.mpr ⟨⟨_, _, rfl, rfl, q1010, zlB q1013, ⟨q1011, ⟨by decide, by decide⟩, Or.inl q1008⟩⟩, List.forall_mem_cons.mpr ⟨⟨_, _, rfl, rfl, q1010, zlB q1021, ⟨q1011, ⟨by decide, by decide⟩, Or.inl q1008⟩⟩, List.forall_mem_cons.mpr ⟨⟨_, _, rfl, rfl, q1010, zlB q1019, ⟨q1011, ⟨by decide, by decide⟩, Or.inl q1008⟩⟩, List.forall_mem_cons.mpr ⟨⟨_, _, rfl, rfl, q1010, zlB q1022, ⟨q1011, ⟨by decide, by decide⟩, Or.inl q1008⟩⟩, List.forall_mem_cons.mpr ⟨⟨_, _, rfl, rfl, q1010, zlB q1025, ⟨q1011, ⟨by decide, by decide⟩, Or.inl q1008⟩⟩, List.forall_mem_cons.mpr ⟨⟨_, _, rfl, rfl, q1010, zlB q1020, ⟨q1011, ⟨by decide, by decide⟩, Or.inl q1008⟩⟩, List.forall_mem_cons.mpr ⟨⟨_, _, rfl, rfl, q1010, zlB q1014, ⟨q1011, ⟨by decide, by decide⟩, Or.inl q1008⟩⟩, List.forall_mem_cons.mpr ⟨⟨_, _, rfl, rfl, q1010, zlB q1017, ⟨q1011, ⟨by decide, by decide⟩, Or.inl q1008⟩⟩, List.forall_mem_cons.mpr ⟨⟨_, _, rfl, rfl, q1031, zlB q1030, ⟨q1011, ⟨by decide, by decide⟩, Or.inl q1008⟩⟩, List.forall_mem_cons.mpr ⟨⟨_, _, rfl, rfl, q1010, zlB q1037, ⟨q1011, ⟨by decide, by decide⟩, Or.inl q1008⟩⟩, List.forall_mem_cons.mpr ⟨⟨_, _, rfl, rfl, q1031, zlB q1030, ⟨q1011, ⟨by decide, by decide⟩, Or.inl q1008⟩⟩, fun _ h => nomatch h⟩⟩⟩⟩⟩⟩⟩⟩⟩⟩⟩⟩⟩⟩⟩⟩⟩⟩⟩⟩⟩⟩, List.forall_mem_cons.mpr ⟨⟨by decide +kernel, q486, fun _ => ⟨_, _, rfl, rfl, rfl, q487⟩, fun h => absurd h (by decide), fun h => absurd h (by decide), fun h => absurd h (by decide)⟩, List.forall_mem_cons.mpr ⟨⟨by decide +kernel, q492, fun h => absurd h (by decide), fun h => absurd h (by decide), fun h => absurd h (by decide), fun _ => List.forall_mem_cons.mpr ⟨⟨_, _, rfl, rfl, q493, zlB q494, rfl⟩, fun _ h => nomatch h⟩⟩, List.forall_mem_cons.mpr ⟨⟨by decide +kernel, q397, fun h => absurd h (by decide), fun h => absurd h (by decide), fun h => absurd h (by decide), fun _ => List.forall_mem_cons.mpr ⟨⟨_, _, rfl, rfl, q399, zlB qs2, rfl⟩, fun _ h => nomatch h⟩⟩, List.forall_mem_cons.mpr ⟨⟨by decide +kernel, q393, fun h => absurd h (by decide), fun h => absurd h (by decide), fun h => absurd h (by decide), fun _ => List.forall_mem_cons.mpr ⟨⟨_, _, rfl, rfl, q395, zlB qs1, rfl⟩, fun _ h => nomatch h⟩⟩, List.forall_mem_cons.mpr ⟨⟨by decide +kernel, q1224, fun h => absurd h (by decide), fun h => absurd h (by decide), fun h => absurd h (by decide), fun _ => List.forall_mem_cons.mpr ⟨⟨_, _, rfl, rfl, q1226, zlB qs27, rfl⟩, fun _ h => nomatch h⟩⟩, List.forall_mem_cons.mpr ⟨⟨by decide +kernel, q410, fun _ => ⟨_, _, rfl, rfl, rfl, q411⟩, fun h => absurd h (by decide), fun h => absurd h (by decide), fun h => absurd h (by decide)⟩, List.forall_mem_cons.mpr ⟨⟨by decide +kernel, q414, fun _ => ⟨_, _, rfl, rfl, rfl, q415⟩, fun h => absurd h (by decide), fun h => absurd h (by decide), fun h => absurd h (by decide)⟩, List.forall_mem_cons.mpr ⟨⟨by decide +kernel, q446, fun _ => ⟨_, _, rfl, rfl, rfl, q447⟩, fun h => absurd h (by decide), fun h => absurd h (by decide), fun h => absurd h (by decide)⟩, List.forall_mem_cons.mpr ⟨⟨by decide +kernel, q451, fun _ => ⟨_, _, rfl, rfl, rfl, q452⟩, fun h => absurd h (by decide), fun h => absurd h (by decide), fun h => absurd h (by decide)⟩, List.forall_mem_cons.mpr ⟨⟨by decide +kernel, q969, fun _ => ⟨_, _, rfl, rfl, rfl, q970⟩, fun h => absurd h (by decide), fun h => absurd h (by decide), fun h => absurd h (by decide)⟩, List.forall_mem_cons.mpr ⟨⟨by decide +kernel, q972, fun _ => ⟨_, _, rfl, rfl, rfl, q973⟩, fun h => absurd h (by decide), fun h => absurd h (by decide), fun h => absurd h (by decide)⟩, List.forall_mem_cons.mpr ⟨⟨by decide +kernel, q489, fun _ => ⟨_, _, rfl, rfl, rfl, q490⟩, fun h => absurd h (by decide), fun h => absurd h (by decide), fun h => absurd h (by decide)⟩, List.forall_mem_cons.mpr ⟨⟨by decide +kernel, q982, fun _ => ⟨_, _, rfl, rfl, rfl, q983⟩, fun h => absurd h (by decide), fun h => absurd h (by decide), fun h => absurd h (by decide)⟩, List.forall_mem_cons.mpr ⟨⟨by decide +kernel, q966, fun _ => ⟨_, _, rfl, rfl, rfl, q967⟩, fun h => absurd h (by decide), fun h => absurd h (by decide), fun h => absurd h (by decide)⟩, fun _ h => nomatch h⟩⟩⟩⟩⟩⟩⟩⟩⟩⟩⟩⟩⟩⟩⟩⟩⟩⟩⟩⟩⟩⟩⟩⟩⟩⟩⟩⟩⟩⟩⟩⟩⟩⟩⟩⟩⟩⟩⟩⟩
def zks_7 : List zK := [(29, 335, 1, ⟨"java/lang/String", "coder", "()B"⟩, 0, [(19, 246), (21, 246)], none),
  (29, 489, 2, ⟨"java/lang/String", "<init>", "(Ljava/lang/AbstractStringBuilder;Ljava/lang/Void;)V"⟩, 2, [(0, 252)], none),
  (29, 492, 1, ⟨"java/lang/String", "isLatin1", "()Z"⟩, 0, [(19, 244), (21, 244)], none),
  (29, 495, 0, ⟨"java/lang/StringLatin1", "charAt", "([BI)C"⟩, 2, [(0, 257)], none),
  (29, 498, 0, ⟨"java/lang/StringUTF16", "charAt", "([BI)C"⟩, 2, [(0, 268)], none),
  (29, 505, 1, ⟨"java/lang/String", "length", "()I"⟩, 0, [(19, 245), (21, 245)], none),
  (29, 541, 0, ⟨"java/lang/StringLatin1", "equals", "([B[B)Z"⟩, 2, [(0, 260)], none),
  (29, 549, 1, ⟨"java/lang/AbstractStringBuilder", "length", "()I"⟩, 0, [(20, 300)], some "java/lang/AbstractStringBuilder"),
  (29, 552, 1, ⟨"java/lang/AbstractStringBuilder", "getValue", "()[B"⟩, 0, [(20, 294)], some "java/lang/AbstractStringBuilder"),
  (29, 633, 1, ⟨"java/lang/String", "indexOf", "(II)I"⟩, 2, [(19, 243), (21, 243)], none),
  (29, 637, 0, ⟨"java/lang/StringLatin1", "indexOf", "([BIII)I"⟩, 4, [(0, 254)], none),
  (29, 640, 0, ⟨"java/lang/StringUTF16", "indexOf", "([BIII)I"⟩, 4, [(0, 261)], none),
  (29, 1047, 1, ⟨"java/lang/AbstractStringBuilder", "isLatin1", "()Z"⟩, 0, [(20, 292)], some "java/lang/AbstractStringBuilder"),
  (29, 1051, 0, ⟨"java/lang/StringUTF16", "compress", "([BII)[B"⟩, 3, [(0, 276)], none),
  (29, 1059, 0, ⟨"jdk/internal/util/Preconditions", "checkIndex", "(IILjava/util/function/BiFunction;)I"⟩, 3, [(0, 239)], none),
  (29, 1062, 0, ⟨"jdk/internal/util/Preconditions", "checkFromToIndex", "(IIILjava/util/function/BiFunction;)I"⟩, 4, [(0, 240)], none),
  (29, 1065, 0, ⟨"jdk/internal/util/Preconditions", "checkFromIndexSize", "(IIILjava/util/function/BiFunction;)I"⟩, 4, [(0, 241)], none),
  (30, 9, 0, ⟨"java/lang/String", "checkIndex", "(II)V"⟩, 2, [(0, 249)], none),
  (30, 38, 0, ⟨"java/lang/Math", "min", "(II)I"⟩, 2, [(0, 230)], none),
  (30, 88, 0, ⟨"java/lang/StringLatin1", "canEncode", "(I)Z"⟩, 1, [(0, 255)], none),
  (30, 92, 0, ⟨"java/lang/Math", "max", "(II)I"⟩, 2, [(0, 229)], none),
  (30, 95, 0, ⟨"java/lang/StringLatin1", "indexOfChar", "([BIII)I"⟩, 4, [(0, 256)], none),
  (30, 240, 0, ⟨"java/lang/StringUTF16", "inflate", "([BI[BII)V"⟩, 5, [(0, 272)], none),
  (31, 11, 0, ⟨"java/lang/StringUTF16", "newBytesLength", "(I)I"⟩, 1, [(0, 271)], none),
  (31, 48, 0, ⟨"java/lang/StringUTF16", "length", "([B)I"⟩, 1, [(0, 264)], none),
  (31, 67, 0, ⟨"java/lang/StringUTF16", "checkIndex", "(I[B)V"⟩, 2, [(0, 269)], none),
  (31, 71, 0, ⟨"java/lang/StringUTF16", "getChar", "([BI)C"⟩, 2, [(0, 266)], none),
  (31, 96, 0, ⟨"java/lang/StringUTF16", "checkBoundsBeginEnd", "(II[B)V"⟩, 3, [(0, 263)], none),
  (31, 111, 0, ⟨"java/lang/StringUTF16", "putChar", "([BII)V"⟩, 3, [(0, 274)], none),
  (31, 123, 0, ⟨"java/lang/StringUTF16", "compress", "([BI[BII)I"⟩, 5, [(0, 277)], none),
  (31, 126, 0, ⟨"java/util/Arrays", "copyOfRange", "([BII)[B"⟩, 3, [(0, 235)], none),
  (31, 157, 0, ⟨"java/lang/Character", "highSurrogate", "(I)C"⟩, 1, [(0, 280)], none),
  (31, 161, 0, ⟨"java/lang/Character", "lowSurrogate", "(I)C"⟩, 1, [(0, 281)], none),
  (31, 164, 0, ⟨"java/lang/Character", "isValidCodePoint", "(I)Z"⟩, 1, [(0, 279)], none),
  (31, 173, 0, ⟨"java/lang/StringUTF16", "checkBoundsOffCount", "(II[B)V"⟩, 3, [(0, 273)], none),
  (31, 183, 0, ⟨"java/lang/Math", "min", "(II)I"⟩, 2, [(0, 230)], none),
  (31, 224, 0, ⟨"java/lang/Math", "max", "(II)I"⟩, 2, [(0, 229)], none),
  (31, 228, 0, ⟨"java/lang/StringUTF16", "indexOfChar", "([BIII)I"⟩, 4, [(0, 262)], none),
  (31, 232, 0, ⟨"java/lang/StringUTF16", "indexOfSupplementary", "([BIII)I"⟩, 4, [(0, 267)], none),
  (31, 241, 0, ⟨"java/lang/String", "checkBoundsBeginEnd", "(III)V"⟩, 3, [(0, 247)], none)]
set_option maxRecDepth 100000 in
theorem zks_7_ok : ∀ e ∈ zks_7, zKok e := List.forall_mem_cons.mpr ⟨⟨by decide +kernel, q673, fun h => absurd h (by decide), fun h => absurd h (by decide), fun h => absurd h (by decide), fun _ => List.forall_mem_cons.mpr ⟨⟨_, _, rfl, rfl, q674, zlB q675, rfl⟩, List.forall_mem_cons.mpr ⟨⟨_, _, rfl, rfl, q674, zlB q675, rfl⟩, fun _ h => nomatch h⟩⟩⟩, List.forall_mem_cons.mpr ⟨⟨by decide +kernel, q948, fun h => absurd h (by decide), fun _ => ⟨rfl, _, _, rfl, rfl, rfl, rfl, q949⟩, fun h => absurd h (by decide), fun h => absurd h (by decide)⟩, List.forall_mem_cons.mpr ⟨⟨by decide +kernel, q663, fun h => absurd h (by decide), fun h => absurd h (by decide), fun h => absurd h (by decide), fun _ => List.forall_mem_cons.mpr ⟨⟨_, _, rfl, rfl, q664, zlB q665, rfl⟩, List.forall_mem_cons.mpr ⟨⟨_, _, rfl, rfl, q664, zlB q665, rfl⟩, fun _ h => nomatch h⟩⟩⟩, List.forall_mem_cons.mpr ⟨⟨by decide +kernel, q752, fun _ => ⟨_, _, rfl, rfl, rfl, q753⟩, fun h => absurd h (by decide), fun h => absurd h (by decide), fun h => absurd h (by decide)⟩, List.forall_mem_cons.mpr ⟨⟨by decide +kernel, q759, fun _ => ⟨_, _, rfl, rfl, rfl, q760⟩, fun h => absurd h (by decide), fun h => absurd h (by decide), fun h => absurd h (by decide)⟩, List.forall_mem_cons.mpr ⟨⟨by decide +kernel, q669, fun h => absurd h (by decide), fun h => absurd h (by decide), fun h => absurd h (by decide), fun _ => List.forall_mem_cons.mpr ⟨⟨_, _, rfl, rfl, q670, zlB q671, rfl⟩, List.forall_mem_cons.mpr ⟨⟨_, _, rfl, rfl, q670, zlB q671, rfl⟩, fun _ h => nomatch h⟩⟩⟩, List.forall_mem_cons.mpr ⟨⟨by decide +kernel, q1034, fun _ => ⟨_, _, rfl, rfl, rfl, q1035⟩, fun h => absurd h (by decide), fun h => absurd h (by decide), fun h => absurd h (by decide)⟩, List.forall_mem_cons.mpr ⟨⟨by decide +kernel, q957, fun h => absurd h (by decide), fun h => absurd h (by decide), fun h => absurd h (by decide), fun _ => List.forall_mem_cons.mpr ⟨⟨_, _, rfl, rfl, q961, zlB q960, ⟨q959, ⟨by decide, by decide⟩, Or.inr ⟨_, List.mem_of_getElem? (i := 295) rfl, rfl, q958, rfl⟩⟩⟩, fun _ h => nomatch h⟩⟩, List.forall_mem_cons.mpr ⟨⟨by decide +kernel, q952, fun h => absurd h (by decide), fun h => absurd h (by decide), fun h => absurd h (by decide), fun _ => List.forall_mem_cons.mpr ⟨⟨_, _, rfl, rfl, q953, zlB q955, ⟨q954, ⟨by decide, by decide⟩, Or.inr ⟨_, List.mem_of_getElem? (i := 294) rfl, rfl, q953, rfl⟩⟩⟩, fun _ h => nomatch h⟩⟩, List.forall_mem_cons.mpr ⟨⟨by decide +kernel, q659, fun h => absurd h (by decide), fun h => absurd h (by decide), fun h => absurd h (by decide), fun _ => List.forall_mem_cons.mpr ⟨⟨_, _, rfl, rfl, q660, zlB q661, rfl⟩, List.forall_mem_cons.mpr ⟨⟨_, _, rfl, rfl, q660, zlB q661, rfl⟩, fun _ h => nomatch h⟩⟩⟩, List.forall_mem_cons.mpr ⟨⟨by decide +kernel, q677, fun _ => ⟨_, _, rfl, rfl, rfl, q678⟩, fun h => absurd h (by decide), fun h => absurd h (by decide), fun h => absurd h (by decide)⟩, List.forall_mem_cons.mpr ⟨⟨by decide +kernel, q688, fun _ => ⟨_, _, rfl, rfl, rfl, q689⟩, fun h => absurd h (by decide), fun h => absurd h (by decide), fun h => absurd h (by decide)⟩, List.forall_mem_cons.mpr ⟨⟨by decide +kernel, q965, fun h => absurd h (by decide), fun h => absurd h (by decide), fun h => absurd h (by decide), fun _ => List.forall_mem_cons.mpr ⟨⟨_, _, rfl, rfl, q907, zlB q909, ⟨q908, ⟨by decide, by decide⟩, Or.inr ⟨_, List.mem_of_getElem? (i := 292) rfl, rfl, q907, rfl⟩⟩⟩, fun _ h => nomatch h⟩⟩, List.forall_mem_cons.mpr ⟨⟨by decide +kernel, q975, fun _ => ⟨_, _, rfl, rfl, rfl, q976⟩, fun h => absurd h (by decide), fun h => absurd h (by decide), fun h => absurd h (by decide)⟩, List.forall_mem_cons.mpr ⟨⟨by decide +kernel, q758, fun _ => ⟨_, _, rfl, rfl, rfl, q490⟩, fun h => absurd h (by decide), fun h => absurd h (by decide), fun h => absurd h (by decide)⟩, List.forall_mem_cons.mpr ⟨⟨by decide +kernel, q708, fun _ => ⟨_, _, rfl, rfl, rfl, q709⟩, fun h => absurd h (by decide), fun h => absurd h (by decide), fun h => absurd h (by decide)⟩, List.forall_mem_cons.mpr ⟨⟨by decide +kernel, q930, fun _ => ⟨_, _, rfl, rfl, rfl, q931⟩, fun h => absurd h (by decide), fun h => absurd h (by decide), fun h => absurd h (by decide)⟩, List.forall_mem_cons.mpr ⟨⟨by decide +kernel, q755, fun _ => ⟨_, _, rfl, rfl, rfl, q756⟩, fun h => absurd h (by decide), fun h => absurd h (by decide), fun h => absurd h (by decide)⟩, List.forall_mem_cons.mpr ⟨⟨by decide +kernel, q684, fun _ => ⟨_, _, rfl, rfl, rfl, q452⟩, fun h => absurd h (by decide), fun h => absurd h (by decide), fun h => absurd h (by decide)⟩, List.forall_mem_cons.mpr ⟨⟨by decide +kernel, q680, fun _ => ⟨_, _, rfl, rfl, rfl, q681⟩, fun h => absurd h (by decide), fun h => absurd h (by decide), fun h => absurd h (by decide)⟩, List.forall_mem_cons.mpr ⟨⟨by decide +kernel, q683, fun _ => ⟨_, _, rfl, rfl, rfl, q411⟩, fun h => absurd h (by decide), fun h => absurd h (by decide), fun h => absurd h (by decide)⟩, List.forall_mem_cons.mpr ⟨⟨by decide +kernel, q685, fun _ => ⟨_, _, rfl, rfl, rfl, q686⟩, fun h => absurd h (by decide), fun h => absurd h (by decide), fun h => absurd h (by decide)⟩, List.forall_mem_cons.mpr ⟨⟨by decide +kernel, q921, fun _ => ⟨_, _, rfl, rfl, rfl, q922⟩, fun h => absurd h (by decide), fun h => absurd h (by decide), fun h => absurd h (by decide)⟩, List.forall_mem_cons.mpr ⟨⟨by decide +kernel, q862, fun _ => ⟨_, _, rfl, rfl, rfl, q863⟩, fun h => absurd h (by decide), fun h => absurd h (by decide), fun h => absurd h (by decide)⟩, List.forall_mem_cons.mpr ⟨⟨by decide +kernel, q700, fun _ => ⟨_, _, rfl, rfl, rfl, q701⟩, fun h => absurd h (by decide), fun h => absurd h (by decide), fun h => absurd h (by decide)⟩, List.forall_mem_cons.mpr ⟨⟨by decide +kernel, q762, fun _ => ⟨_, _, rfl, rfl, rfl, q763⟩, fun h => absurd h (by decide), fun h => absurd h (by decide), fun h => absurd h (by decide)⟩, List.forall_mem_cons.mpr ⟨⟨by decide +kernel, q714, fun _ => ⟨_, _, rfl, rfl, rfl, q715⟩, fun h => absurd h (by decide), fun h => absurd h (by decide), fun h => absurd h (by decide)⟩, List.forall_mem_cons.mpr ⟨⟨by decide +kernel, q697, fun _ => ⟨_, _, rfl, rfl, rfl, q698⟩, fun h => absurd h (by decide), fun h => absurd h (by decide), fun h => absurd h (by decide)⟩, List.forall_mem_cons.mpr ⟨⟨by decide +kernel, q933, fun _ => ⟨_, _, rfl, rfl, rfl, q934⟩, fun h => absurd h (by decide), fun h => absurd h (by decide), fun h => absurd h (by decide)⟩, List.forall_mem_cons.mpr ⟨⟨by decide +kernel, q978, fun _ => ⟨_, _, rfl, rfl, rfl, q979⟩, fun h => absurd h (by decide), fun h => absurd h (by decide), fun h => absurd h (by decide)⟩, List.forall_mem_cons.mpr ⟨⟨by decide +kernel, q981, fun _ => ⟨_, _, rfl, rfl, rfl, q967⟩, fun h => absurd h (by decide), fun h => absurd h (by decide), fun h => absurd h (by decide)⟩, List.forall_mem_cons.mpr ⟨⟨by decide +kernel, q729, fun _ => ⟨_, _, rfl, rfl, rfl, q730⟩, fun h => absurd h (by decide), fun h => absurd h (by decide), fun h => absurd h (by decide)⟩, List.forall_mem_cons.mpr ⟨⟨by decide +kernel, q733, fun _ => ⟨_, _, rfl, rfl, rfl, q734⟩, fun h => absurd h (by decide), fun h => absurd h (by decide), fun h => absurd h (by decide)⟩, List.forall_mem_cons.mpr ⟨⟨by decide +kernel, q726, fun _ => ⟨_, _, rfl, rfl, rfl, q727⟩, fun h => absurd h (by decide), fun h => absurd h (by decide), fun h => absurd h (by decide)⟩, List.forall_mem_cons.mpr ⟨⟨by decide +kernel, q924, fun _ => ⟨_, _, rfl, rfl, rfl, q925⟩, fun h => absurd h (by decide), fun h => absurd h (by decide), fun h => absurd h (by decide)⟩, List.forall_mem_cons.mpr ⟨⟨by decide +kernel, q692, fun _ => ⟨_, _, rfl, rfl, rfl, q452⟩, fun h => absurd h (by decide), fun h => absurd h (by decide), fun h => absurd h (by decide)⟩, List.forall_mem_cons.mpr ⟨⟨by decide +kernel, q691, fun _ => ⟨_, _, rfl, rfl, rfl, q411⟩, fun h => absurd h (by decide), fun h => absurd h (by decide), fun h => absurd h (by decide)⟩, List.forall_mem_cons.mpr ⟨⟨by decide +kernel, q694, fun _ => ⟨_, _, rfl, rfl, rfl, q695⟩, fun h => absurd h (by decide), fun h => absurd h (by decide), fun h => absurd h (by decide)⟩, List.forall_mem_cons.mpr ⟨⟨by decide +kernel, q723, fun _ => ⟨_, _, rfl, rfl, rfl, q724⟩, fun h => absurd h (by decide), fun h => absurd h (by decide), fun h => absurd h (by decide)⟩, List.forall_mem_cons.mpr ⟨⟨by decide +kernel, q703, fun _ => ⟨_, _, rfl, rfl, rfl, q704⟩, fun h => absurd h (by decide), fun h => absurd h (by decide), fun h => absurd h (by decide)⟩, fun _ h => nomatch h⟩⟩⟩⟩⟩⟩⟩⟩⟩⟩⟩⟩⟩⟩⟩⟩⟩⟩⟩⟩⟩⟩⟩⟩⟩⟩⟩⟩⟩⟩⟩⟩⟩⟩⟩⟩⟩⟩⟩⟩
def zks_8 : List zK := [(31, 244, 0, ⟨"java/lang/StringUTF16", "indexOfCharUnsafe", "([BIII)I"⟩, 4, [(0, 265)], none),
  (31, 414, 0, ⟨"java/lang/String", "checkIndex", "(II)V"⟩, 2, [(0, 249)], none),
  (31, 419, 0, ⟨"java/lang/String", "checkBoundsOffCount", "(III)I"⟩, 3, [(0, 250)], none),
  (34, 1, 2, ⟨"java/lang/Throwable", "<init>", "()V"⟩, 0, [(0, 282)], none),
  (34, 16, 2, ⟨"java/lang/Throwable", "<init>", "(Ljava/lang/String;Ljava/lang/Throwable;ZZ)V"⟩, 4, [(0, 283)], none),
  (35, 1, 2, ⟨"java/lang/Exception", "<init>", "()V"⟩, 0, [(0, 285)], none),
  (35, 16, 2, ⟨"java/lang/Exception", "<init>", "(Ljava/lang/String;Ljava/lang/Throwable;ZZ)V"⟩, 4, [(0, 284)], none),
  (36, 26, 0, ⟨"java/lang/StringUTF16", "newBytesFor", "(I)[B"⟩, 1, [(0, 270)], none),
  (36, 83, 1, ⟨"java/lang/AbstractStringBuilder", "isLatin1", "()Z"⟩, 0, [(20, 292)], some "java/lang/AbstractStringBuilder"),
  (36, 100, 1, ⟨"java/lang/AbstractStringBuilder", "ensureCapacityInternal", "(I)V"⟩, 1, [(20, 290)], none),
  (36, 104, 1, ⟨"java/lang/AbstractStringBuilder", "newCapacity", "(I)I"⟩, 1, [(20, 291)], none),
  (36, 108, 0, ⟨"java/util/Arrays", "copyOf", "([BI)[B"⟩, 2, [(0, 234)], none),
  (36, 114, 0, ⟨"jdk/internal/util/ArraysSupport", "newLength", "(III)I"⟩, 3, [(0, 227)], none),
  (36, 125, 0, ⟨"java/lang/StringLatin1", "inflate", "([BI[BII)V"⟩, 5, [(0, 259)], none),
  (36, 138, 0, ⟨"java/lang/Math", "min", "(II)I"⟩, 2, [(0, 230)], none),
  (36, 144, 0, ⟨"java/lang/String", "checkIndex", "(II)V"⟩, 2, [(0, 249)], none),
  (36, 148, 0, ⟨"java/lang/StringUTF16", "getChar", "([BI)C"⟩, 2, [(0, 266)], none),
  (36, 191, 0, ⟨"java/lang/StringLatin1", "canEncode", "(C)Z"⟩, 1, [(0, 258)], none),
  (36, 195, 1, ⟨"java/lang/AbstractStringBuilder", "inflate", "()V"⟩, 0, [(20, 293)], none),
  (36, 197, 0, ⟨"java/lang/StringUTF16", "putCharSB", "([BII)V"⟩, 3, [(0, 275)], none),
  (37, 1, 2, ⟨"java/lang/AbstractStringBuilder", "<init>", "(I)V"⟩, 1, [(0, 288)], none),
  (37, 50, 4, ⟨"java/lang/AbstractStringBuilder", "append", "(C)Ljava/lang/AbstractStringBuilder;"⟩, 1, [(0, 289)], none),
  (37, 137, 2, ⟨"java/lang/String", "<init>", "(Ljava/lang/StringBuilder;)V"⟩, 1, [(0, 251)], none),
  (37, 329, 4, ⟨"java/lang/AbstractStringBuilder", "charAt", "(I)C"⟩, 1, [(0, 296)], none),
  (37, 343, 4, ⟨"java/lang/AbstractStringBuilder", "length", "()I"⟩, 0, [(0, 295)], none),
  (39, 1, 2, ⟨"java/lang/RuntimeException", "<init>", "()V"⟩, 0, [(0, 287)], none)]
set_option maxRecDepth 100000 in
theorem zks_8_ok : ∀ e ∈ zks_8, zKok e := List.forall_mem_cons.mpr ⟨⟨by decide +kernel, q711, fun _ => ⟨_, _, rfl, rfl, rfl, q712⟩, fun h => absurd h (by decide), fun h => absurd h (by decide), fun h => absurd h (by decide)⟩, List.forall_mem_cons.mpr ⟨⟨by decide +kernel, q765, fun _ => ⟨_, _, rfl, rfl, rfl, q756⟩, fun h => absurd h (by decide), fun h => absurd h (by decide), fun h => absurd h (by decide)⟩, List.forall_mem_cons.mpr ⟨⟨by decide +kernel, q927, fun _ => ⟨_, _, rfl, rfl, rfl, q928⟩, fun h => absurd h (by decide), fun h => absurd h (by decide), fun h => absurd h (by decide)⟩, List.forall_mem_cons.mpr ⟨⟨by decide +kernel, q1490, fun h => absurd h (by decide), fun _ => ⟨rfl, _, _, rfl, rfl, rfl, rfl, q793⟩, fun h => absurd h (by decide), fun h => absurd h (by decide)⟩, List.forall_mem_cons.mpr ⟨⟨by decide +kernel, q819, fun h => absurd h (by decide), fun _ => ⟨rfl, _, _, rfl, rfl, rfl, rfl, q820⟩, fun h => absurd h (by decide), fun h => absurd h (by decide)⟩, List.forall_mem_cons.mpr ⟨⟨by decide +kernel, q1487, fun h => absurd h (by decide), fun _ => ⟨rfl, _, _, rfl, rfl, rfl, rfl, q1488⟩, fun h => absurd h (by decide), fun h => absurd h (by decide)⟩, List.forall_mem_cons.mpr ⟨⟨by decide +kernel, q816, fun h => absurd h (by decide), fun _ => ⟨rfl, _, _, rfl, rfl, rfl, rfl, q817⟩, fun h => absurd h (by decide), fun h => absurd h (by decide)⟩, List.forall_mem_cons.mpr ⟨⟨by decide +kernel, q859, fun _ => ⟨_, _, rfl, rfl, rfl, q860⟩, fun h => absurd h (by decide), fun h => absurd h (by decide), fun h => absurd h (by decide)⟩, List.forall_mem_cons.mpr ⟨⟨by decide +kernel, q906, fun h => absurd h (by decide), fun h => absurd h (by decide), fun h => absurd h (by decide), fun _ => List.forall_mem_cons.mpr ⟨⟨_, _, rfl, rfl, q907, zlB q909, ⟨q908, ⟨by decide, by decide⟩, Or.inr ⟨_, List.mem_of_getElem? (i := 292) rfl, rfl, q907, rfl⟩⟩⟩, fun _ h => nomatch h⟩⟩, List.forall_mem_cons.mpr ⟨⟨by decide +kernel, q886, fun h => absurd h (by decide), fun h => absurd h (by decide), fun h => absurd h (by decide), fun _ => List.forall_mem_cons.mpr ⟨⟨_, _, rfl, rfl, q888, zxw_0, rfl⟩, fun _ h => nomatch h⟩⟩, List.forall_mem_cons.mpr ⟨⟨by decide +kernel, q890, fun h => absurd h (by decide), fun h => absurd h (by decide), fun h => absurd h (by decide), fun _ => List.forall_mem_cons.mpr ⟨⟨_, _, rfl, rfl, q892, zxw_1, rfl⟩, fun _ h => nomatch h⟩⟩, List.forall_mem_cons.mpr ⟨⟨by decide +kernel, q896, fun _ => ⟨_, _, rfl, rfl, rfl, q897⟩, fun h => absurd h (by decide), fun h => absurd h (by decide), fun h => absurd h (by decide)⟩, List.forall_mem_cons.mpr ⟨⟨by decide +kernel, q894, fun _ => ⟨_, _, rfl, rfl, rfl, q408⟩, fun h => absurd h (by decide), fun h => absurd h (by decide), fun h => absurd h (by decide)⟩, List.forall_mem_cons.mpr ⟨⟨by decide +kernel, q918, fun _ => ⟨_, _, rfl, rfl, rfl, q919⟩, fun h => absurd h (by decide), fun h => absurd h (by decide), fun h => absurd h (by decide)⟩, List.forall_mem_cons.mpr ⟨⟨by decide +kernel, q1283, fun _ => ⟨_, _, rfl, rfl, rfl, q452⟩, fun h => absurd h (by decide), fun h => absurd h (by decide), fun h => absurd h (by decide)⟩, List.forall_mem_cons.mpr ⟨⟨by decide +kernel, q1284, fun _ => ⟨_, _, rfl, rfl, rfl, q756⟩, fun h => absurd h (by decide), fun h => absurd h (by decide), fun h => absurd h (by decide)⟩, List.forall_mem_cons.mpr ⟨⟨by decide +kernel, q1285, fun _ => ⟨_, _, rfl, rfl, rfl, q715⟩, fun h => absurd h (by decide), fun h => absurd h (by decide), fun h => absurd h (by decide)⟩, List.forall_mem_cons.mpr ⟨⟨by decide +kernel, q911, fun _ => ⟨_, _, rfl, rfl, rfl, q912⟩, fun h => absurd h (by decide), fun h => absurd h (by decide), fun h => absurd h (by decide)⟩, List.forall_mem_cons.mpr ⟨⟨by decide +kernel, q914, fun h => absurd h (by decide), fun h => absurd h (by decide), fun h => absurd h (by decide), fun _ => List.forall_mem_cons.mpr ⟨⟨_, _, rfl, rfl, q916, zxw_2, rfl⟩, fun _ h => nomatch h⟩⟩, List.forall_mem_cons.mpr ⟨⟨by decide +kernel, q936, fun _ => ⟨_, _, rfl, rfl, rfl, q937⟩, fun h => absurd h (by decide), fun h => absurd h (by decide), fun h => absurd h (by decide)⟩, List.forall_mem_cons.mpr ⟨⟨by decide +kernel, q854, fun h => absurd h (by decide), fun _ => ⟨rfl, _, _, rfl, rfl, rfl, rfl, q855⟩, fun h => absurd h (by decide), fun h => absurd h (by decide)⟩, List.forall_mem_cons.mpr ⟨⟨by decide +kernel, q883, fun h => absurd h (by decide), fun h => absurd h (by decide), fun _ => ⟨_, _, rfl, rfl, rfl, q884, q2148, q878, by decide⟩, fun h => absurd h (by decide)⟩, List.forall_mem_cons.mpr ⟨⟨by decide +kernel, q945, fun h => absurd h (by decide), fun _ => ⟨rfl, _, _, rfl, rfl, rfl, rfl, q946⟩, fun h => absurd h (by decide), fun h => absurd h (by decide)⟩, List.forall_mem_cons.mpr ⟨⟨by decide +kernel, q1280, fun h => absurd h (by decide), fun h => absurd h (by decide), fun _ => ⟨_, _, rfl, rfl, rfl, q1281, q2152, q878, by decide⟩, fun h => absurd h (by decide)⟩, List.forall_mem_cons.mpr ⟨⟨by decide +kernel, q963, fun h => absurd h (by decide), fun h => absurd h (by decide), fun _ => ⟨_, _, rfl, rfl, rfl, q958, q959, q878, by decide⟩, fun h => absurd h (by decide)⟩, List.forall_mem_cons.mpr ⟨⟨by decide +kernel, q1484, fun h => absurd h (by decide), fun _ => ⟨rfl, _, _, rfl, rfl, rfl, rfl, q1485⟩, fun h => absurd h (by decide), fun h => absurd h (by decide)⟩, fun _ h => nomatch h⟩⟩⟩⟩⟩⟩⟩⟩⟩⟩⟩⟩⟩⟩⟩⟩⟩⟩⟩⟩⟩⟩⟩⟩⟩⟩
def zks : List zK := zks_0 ++ (zks_1 ++ (zks_2 ++ (zks_3 ++ (zks_4 ++ (zks_5 ++ (zks_6 ++ (zks_7 ++ (zks_8))))))))
theorem zks_ok : ∀ e ∈ zks, zKok e := List.forall_mem_append.mpr ⟨zks_0_ok, List.forall_mem_append.mpr ⟨zks_1_ok, List.forall_mem_append.mpr ⟨zks_2_ok, List.forall_mem_append.mpr ⟨zks_3_ok, List.forall_mem_append.mpr ⟨zks_4_ok, List.forall_mem_append.mpr ⟨zks_5_ok, List.forall_mem_append.mpr ⟨zks_6_ok, List.forall_mem_append.mpr ⟨zks_7_ok, zks_8_ok⟩⟩⟩⟩⟩⟩⟩⟩
