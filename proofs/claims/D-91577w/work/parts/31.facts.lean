/-! PRINTED by gen/gen_eq.py: facts for the equations -/
set_option maxRecDepth 100000
theorem zci_m8 : Int32.ofInt (-8) = (-8) := rfl
theorem zci_m1 : Int32.ofInt (-1) = (-1) := rfl
theorem zci_0 : Int32.ofInt 0 = 0 := rfl
theorem zci_1 : Int32.ofInt 1 = 1 := rfl
theorem zci_2 : Int32.ofInt 2 = 2 := rfl
theorem zci_3 : Int32.ofInt 3 = 3 := rfl
theorem zci_4 : Int32.ofInt 4 = 4 := rfl
theorem zci_5 : Int32.ofInt 5 = 5 := rfl
theorem zci_8 : Int32.ofInt 8 = 8 := rfl
theorem zcb_6 : (Int8.ofInt 6).toInt32 = 6 := rfl
theorem zcb_7 : (Int8.ofInt 7).toInt32 = 7 := rfl
theorem zcb_8 : (Int8.ofInt 8).toInt32 = 8 := rfl
theorem zcb_9 : (Int8.ofInt 9).toInt32 = 9 := rfl
theorem zcb_10 : (Int8.ofInt 10).toInt32 = 10 := rfl
theorem zcb_11 : (Int8.ofInt 11).toInt32 = 11 := rfl
theorem zcb_12 : (Int8.ofInt 12).toInt32 = 12 := rfl
theorem zcb_13 : (Int8.ofInt 13).toInt32 = 13 := rfl
theorem zcb_14 : (Int8.ofInt 14).toInt32 = 14 := rfl
theorem zcb_15 : (Int8.ofInt 15).toInt32 = 15 := rfl
theorem zcb_16 : (Int8.ofInt 16).toInt32 = 16 := rfl
theorem zcb_17 : (Int8.ofInt 17).toInt32 = 17 := rfl
theorem zcb_18 : (Int8.ofInt 18).toInt32 = 18 := rfl
theorem zcb_20 : (Int8.ofInt 20).toInt32 = 20 := rfl
theorem zcb_21 : (Int8.ofInt 21).toInt32 = 21 := rfl
theorem zcb_24 : (Int8.ofInt 24).toInt32 = 24 := rfl
theorem zcb_27 : (Int8.ofInt 27).toInt32 = 27 := rfl
theorem zcb_30 : (Int8.ofInt 30).toInt32 = 30 := rfl
theorem zcb_31 : (Int8.ofInt 31).toInt32 = 31 := rfl
theorem zcb_32 : (Int8.ofInt 32).toInt32 = 32 := rfl
theorem zcb_40 : (Int8.ofInt 40).toInt32 = 40 := rfl
theorem zcb_41 : (Int8.ofInt 41).toInt32 = 41 := rfl
theorem zcb_42 : (Int8.ofInt 42).toInt32 = 42 := rfl
theorem zcb_43 : (Int8.ofInt 43).toInt32 = 43 := rfl
theorem zcb_45 : (Int8.ofInt 45).toInt32 = 45 := rfl
theorem zcb_48 : (Int8.ofInt 48).toInt32 = 48 := rfl
theorem zcb_53 : (Int8.ofInt 53).toInt32 = 53 := rfl
theorem zcb_56 : (Int8.ofInt 56).toInt32 = 56 := rfl
theorem zcb_57 : (Int8.ofInt 57).toInt32 = 57 := rfl
theorem zcb_59 : (Int8.ofInt 59).toInt32 = 59 := rfl
theorem zcb_60 : (Int8.ofInt 60).toInt32 = 60 := rfl
theorem zcb_61 : (Int8.ofInt 61).toInt32 = 61 := rfl
theorem zcb_63 : (Int8.ofInt 63).toInt32 = 63 := rfl
theorem zcb_64 : (Int8.ofInt 64).toInt32 = 64 := rfl
theorem zcb_81 : (Int8.ofInt 81).toInt32 = 81 := rfl
theorem zcb_96 : (Int8.ofInt 96).toInt32 = 96 := rfl
theorem zcb_97 : (Int8.ofInt 97).toInt32 = 97 := rfl
theorem zcb_99 : (Int8.ofInt 99).toInt32 = 99 := rfl
theorem zcb_100 : (Int8.ofInt 100).toInt32 = 100 := rfl
theorem zcb_111 : (Int8.ofInt 111).toInt32 = 111 := rfl
theorem zcb_120 : (Int8.ofInt 120).toInt32 = 120 := rfl
theorem zcb_122 : (Int8.ofInt 122).toInt32 = 122 := rfl
theorem zcb_126 : (Int8.ofInt 126).toInt32 = 126 := rfl
theorem zcs_144 : (Int16.ofInt 144).toInt32 = 144 := rfl
theorem zcs_198 : (Int16.ofInt 198).toInt32 = 198 := rfl
theorem zcs_243 : (Int16.ofInt 243).toInt32 = 243 := rfl
theorem zcs_255 : (Int16.ofInt 255).toInt32 = 255 := rfl
theorem zcs_256 : (Int16.ofInt 256).toInt32 = 256 := rfl
theorem zcs_272 : (Int16.ofInt 272).toInt32 = 272 := rfl
theorem zcs_300 : (Int16.ofInt 300).toInt32 = 300 := rfl
theorem zcs_400 : (Int16.ofInt 400).toInt32 = 400 := rfl
theorem zcs_729 : (Int16.ofInt 729).toInt32 = 729 := rfl
theorem zcs_999 : (Int16.ofInt 999).toInt32 = 999 := rfl
theorem zcs_1000 : (Int16.ofInt 1000).toInt32 = 1000 := rfl
theorem zcs_1002 : (Int16.ofInt 1002).toInt32 = 1002 := rfl
theorem zcs_1200 : (Int16.ofInt 1200).toInt32 = 1200 := rfl
theorem zcs_1427 : (Int16.ofInt 1427).toInt32 = 1427 := rfl
theorem zcs_1439 : (Int16.ofInt 1439).toInt32 = 1439 := rfl
theorem zcs_2187 : (Int16.ofInt 2187).toInt32 = 2187 := rfl
theorem zcs_4095 : (Int16.ofInt 4095).toInt32 = 4095 := rfl
theorem zcs_6561 : (Int16.ofInt 6561).toInt32 = 6561 := rfl
theorem zcs_9999 : (Int16.ofInt 9999).toInt32 = 9999 := rfl
theorem zcs_19200 : (Int16.ofInt 19200).toInt32 = 19200 := rfl
theorem zcs_20400 : (Int16.ofInt 20400).toInt32 = 20400 := rfl
theorem zcl_0 : Int64.ofNat ((0 : Fin 2) : Nat) = 0 := rfl
theorem zcl_1 : Int64.ofNat ((1 : Fin 2) : Nat) = 1 := rfl
theorem zow_X0_look : zow mX0_look = 0 := rfl
theorem zlgs_X0_look : zlgs mX0_look = [] := rfl
theorem zow_X0_fair : zow mX0_fair = 0 := rfl
theorem zlgs_X0_fair : zlgs mX0_fair = [] := rfl
theorem zow_X0_lean : zow mX0_lean = 0 := rfl
theorem zlgs_X0_lean : zlgs mX0_lean = [] := rfl
theorem zow_X0_mean : zow mX0_mean = 0 := rfl
theorem zlgs_X0_mean : zlgs mX0_mean = [] := rfl
theorem zow_X1_init : zow mX1_init = 1 := rfl
theorem zlgs_X1_init : zlgs mX1_init = [] := rfl
theorem zow_X1_days : zow mX1_days = 1 := rfl
theorem zlgs_X1_days : zlgs mX1_days = [] := rfl
theorem zow_X1_in : zow mX1_in = 1 := rfl
theorem zlgs_X1_in : zlgs mX1_in = [] := rfl
theorem zow_X1_changed : zow mX1_changed = 1 := rfl
theorem zlgs_X1_changed : zlgs mX1_changed = [] := rfl
theorem zow_X1_view : zow mX1_view = 1 := rfl
theorem zlgs_X1_view : zlgs mX1_view = [] := rfl
theorem zow_X1_shop : zow mX1_shop = 1 := rfl
theorem zlgs_X1_shop : zlgs mX1_shop = [] := rfl
theorem zow_X1_buyer : zow mX1_buyer = 1 := rfl
theorem zlgs_X1_buyer : zlgs mX1_buyer = [] := rfl
theorem zow_X1_terms : zow mX1_terms = 1 := rfl
theorem zlgs_X1_terms : zlgs mX1_terms = [] := rfl
theorem zow_X1_rest : zow mX1_rest = 1 := rfl
theorem zlgs_X1_rest : zlgs mX1_rest = [] := rfl
theorem zow_X1_visit : zow mX1_visit = 1 := rfl
theorem zlgs_X1_visit : zlgs mX1_visit = [] := rfl
theorem zow_X1_isShop : zow mX1_isShop = 1 := rfl
theorem zlgs_X1_isShop : zlgs mX1_isShop = [] := rfl
theorem zow_X1_isBuyer : zow mX1_isBuyer = 1 := rfl
theorem zlgs_X1_isBuyer : zlgs mX1_isBuyer = [] := rfl
theorem zow_X1_appeal : zow mX1_appeal = 1 := rfl
theorem zlgs_X1_appeal : zlgs mX1_appeal = [] := rfl
theorem zow_X1_isVisit : zow mX1_isVisit = 1 := rfl
theorem zlgs_X1_isVisit : zlgs mX1_isVisit = [] := rfl
theorem zow_X1_feed : zow mX1_feed = 1 := rfl
theorem zlgs_X1_feed : zlgs mX1_feed = [1, 3, 5] := rfl
theorem zow_X1_brief : zow mX1_brief = 1 := rfl
theorem zlgs_X1_brief : zlgs mX1_brief = [] := rfl
theorem zow_X1_isDay : zow mX1_isDay = 1 := rfl
theorem zlgs_X1_isDay : zlgs mX1_isDay = [] := rfl
theorem zow_X1_fewest : zow mX1_fewest = 1 := rfl
theorem zlgs_X1_fewest : zlgs mX1_fewest = [] := rfl
theorem zow_X1_works : zow mX1_works = 1 := rfl
theorem zlgs_X1_works : zlgs mX1_works = [] := rfl
theorem zow_X1_sees : zow mX1_sees = 1 := rfl
theorem zlgs_X1_sees : zlgs mX1_sees = [] := rfl
theorem zow_X1_day : zow mX1_day = 1 := rfl
theorem zlgs_X1_day : zlgs mX1_day = [] := rfl
theorem zow_X1_scores : zow mX1_scores = 1 := rfl
theorem zlgs_X1_scores : zlgs mX1_scores = [] := rfl
theorem zow_X1_isFirstOf : zow mX1_isFirstOf = 1 := rfl
theorem zlgs_X1_isFirstOf : zlgs mX1_isFirstOf = [] := rfl
theorem zow_X1_seeks : zow mX1_seeks = 1 := rfl
theorem zlgs_X1_seeks : zlgs mX1_seeks = [] := rfl
theorem zow_X1_parts : zow mX1_parts = 1 := rfl
theorem zlgs_X1_parts : zlgs mX1_parts = [] := rfl
theorem zow_X1_leans : zow mX1_leans = 1 := rfl
theorem zlgs_X1_leans : zlgs mX1_leans = [] := rfl
theorem zow_X1_set : zow mX1_set = 1 := rfl
theorem zlgs_X1_set : zlgs mX1_set = [] := rfl
theorem zow_X1_meetings : zow mX1_meetings = 1 := rfl
theorem zlgs_X1_meetings : zlgs mX1_meetings = [] := rfl
theorem zow_X1_doubt : zow mX1_doubt = 1 := rfl
theorem zlgs_X1_doubt : zlgs mX1_doubt = [] := rfl
theorem zow_X1_areDays : zow mX1_areDays = 1 := rfl
theorem zlgs_X1_areDays : zlgs mX1_areDays = [] := rfl
theorem zow_X1_meanOf : zow mX1_meanOf = 1 := rfl
theorem zlgs_X1_meanOf : zlgs mX1_meanOf = [] := rfl
theorem zow_X1_fair : zow mX1_fair = 1 := rfl
theorem zlgs_X1_fair : zlgs mX1_fair = [] := rfl
theorem zow_X1_apart : zow mX1_apart = 1 := rfl
theorem zlgs_X1_apart : zlgs mX1_apart = [] := rfl
theorem zow_X1_order : zow mX1_order = 1 := rfl
theorem zlgs_X1_order : zlgs mX1_order = [] := rfl
theorem zow_X1_row : zow mX1_row = 1 := rfl
theorem zlgs_X1_row : zlgs mX1_row = [] := rfl
theorem zow_X1_enough : zow mX1_enough = 1 := rfl
theorem zlgs_X1_enough : zlgs mX1_enough = [] := rfl
theorem zow_X1_may : zow mX1_may = 1 := rfl
theorem zlgs_X1_may : zlgs mX1_may = [] := rfl
theorem zow_X1_mayGo : zow mX1_mayGo = 1 := rfl
theorem zlgs_X1_mayGo : zlgs mX1_mayGo = [] := rfl
theorem zow_X1_given : zow mX1_given = 1 := rfl
theorem zlgs_X1_given : zlgs mX1_given = [] := rfl
theorem zow_X1_sumBy : zow mX1_sumBy = 1 := rfl
theorem zlgs_X1_sumBy : zlgs mX1_sumBy = [] := rfl
theorem zow_X1_drawn : zow mX1_drawn = 1 := rfl
theorem zlgs_X1_drawn : zlgs mX1_drawn = [5] := rfl
theorem zow_X1_latest : zow mX1_latest = 1 := rfl
theorem zlgs_X1_latest : zlgs mX1_latest = [] := rfl
theorem zow_X1_sway : zow mX1_sway = 1 := rfl
theorem zlgs_X1_sway : zlgs mX1_sway = [] := rfl
theorem zow_X1_sum : zow mX1_sum = 1 := rfl
theorem zlgs_X1_sum : zlgs mX1_sum = [] := rfl
theorem zow_X1_count : zow mX1_count = 1 := rfl
theorem zlgs_X1_count : zlgs mX1_count = [] := rfl
theorem zow_X1_look : zow mX1_look = 1 := rfl
theorem zlgs_X1_look : zlgs mX1_look = [] := rfl
theorem zow_X1_visitAt : zow mX1_visitAt = 1 := rfl
theorem zlgs_X1_visitAt : zlgs mX1_visitAt = [] := rfl
theorem zow_X1_need : zow mX1_need = 1 := rfl
theorem zlgs_X1_need : zlgs mX1_need = [] := rfl
theorem zow_X1_fair_2 : zow mX1_fair_2 = 1 := rfl
theorem zlgs_X1_fair_2 : zlgs mX1_fair_2 = [] := rfl
theorem zow_X1_lean : zow mX1_lean = 1 := rfl
theorem zlgs_X1_lean : zlgs mX1_lean = [] := rfl
theorem zow_X1_mean : zow mX1_mean = 1 := rfl
theorem zlgs_X1_mean : zlgs mX1_mean = [] := rfl
theorem zow_X2_init : zow mX2_init = 2 := rfl
theorem zlgs_X2_init : zlgs mX2_init = [] := rfl
theorem zow_X2_begin : zow mX2_begin = 2 := rfl
theorem zlgs_X2_begin : zlgs mX2_begin = [] := rfl
theorem zow_X2_next : zow mX2_next = 2 := rfl
theorem zlgs_X2_next : zlgs mX2_next = [] := rfl
theorem zow_X2_at : zow mX2_at = 2 := rfl
theorem zlgs_X2_at : zlgs mX2_at = [] := rfl
theorem zow_X2_isLetter : zow mX2_isLetter = 2 := rfl
theorem zlgs_X2_isLetter : zlgs mX2_isLetter = [] := rfl
theorem zow_X2_isDigit : zow mX2_isDigit = 2 := rfl
theorem zlgs_X2_isDigit : zlgs mX2_isDigit = [] := rfl
theorem zow_X2_whole : zow mX2_whole = 2 := rfl
theorem zlgs_X2_whole : zlgs mX2_whole = [] := rfl
theorem zow_X2_which : zow mX2_which = 2 := rfl
theorem zlgs_X2_which : zlgs mX2_which = [] := rfl
theorem zow_X2_wrong : zow mX2_wrong = 2 := rfl
theorem zlgs_X2_wrong : zlgs mX2_wrong = [] := rfl
theorem zow_X2_let : zow mX2_let = 2 := rfl
theorem zlgs_X2_let : zlgs mX2_let = [] := rfl
theorem zow_X2_name : zow mX2_name = 2 := rfl
theorem zlgs_X2_name : zlgs mX2_name = [] := rfl
theorem zow_X2_need : zow mX2_need = 2 := rfl
theorem zlgs_X2_need : zlgs mX2_need = [] := rfl
theorem zow_X2_isSign : zow mX2_isSign = 2 := rfl
theorem zlgs_X2_isSign : zlgs mX2_isSign = [] := rfl
theorem zow_X2_e : zow mX2_e = 2 := rfl
theorem zlgs_X2_e : zlgs mX2_e = [] := rfl
theorem zow_X2_test : zow mX2_test = 2 := rfl
theorem zlgs_X2_test : zlgs mX2_test = [] := rfl
theorem zow_X2_sum : zow mX2_sum = 2 := rfl
theorem zlgs_X2_sum : zlgs mX2_sum = [] := rfl
theorem zow_X2_term : zow mX2_term = 2 := rfl
theorem zlgs_X2_term : zlgs mX2_term = [] := rfl
theorem zow_X2_part : zow mX2_part = 2 := rfl
theorem zlgs_X2_part : zlgs mX2_part = [] := rfl
theorem zow_X2_number : zow mX2_number = 2 := rfl
theorem zlgs_X2_number : zlgs mX2_number = [] := rfl
theorem zow_X2_need_2 : zow mX2_need_2 = 2 := rfl
theorem zlgs_X2_need_2 : zlgs mX2_need_2 = [] := rfl
theorem zow_X2_meets : zow mX2_meets = 2 := rfl
theorem zlgs_X2_meets : zlgs mX2_meets = [] := rfl
theorem zow_X3_init : zow mX3_init = 3 := rfl
theorem zlgs_X3_init : zlgs mX3_init = [] := rfl
theorem zow_X3_be : zow mX3_be = 3 := rfl
theorem zlgs_X3_be : zlgs mX3_be = [] := rfl
theorem zow_X4_thrown : zow mX4_thrown = 4 := rfl
theorem zlgs_X4_thrown : zlgs mX4_thrown = [] := rfl
theorem zow_X4_feed : zow mX4_feed = 4 := rfl
theorem zlgs_X4_feed : zlgs mX4_feed = [1, 3, 5] := rfl
theorem zow_X4_lay : zow mX4_lay = 4 := rfl
theorem zlgs_X4_lay : zlgs mX4_lay = [1] := rfl
theorem zow_X4_init : zow mX4_init = 4 := rfl
theorem zlgs_X4_init : zlgs mX4_init = [] := rfl
theorem zow_X4_brief : zow mX4_brief = 4 := rfl
theorem zlgs_X4_brief : zlgs mX4_brief = [] := rfl
theorem zow_X4_cutAll : zow mX4_cutAll = 4 := rfl
theorem zlgs_X4_cutAll : zlgs mX4_cutAll = [5] := rfl
theorem zow_X4_isLetter : zow mX4_isLetter = 4 := rfl
theorem zlgs_X4_isLetter : zlgs mX4_isLetter = [] := rfl
theorem zow_X4_rank : zow mX4_rank = 4 := rfl
theorem zlgs_X4_rank : zlgs mX4_rank = [] := rfl
theorem zow_X4_isDigit : zow mX4_isDigit = 4 := rfl
theorem zlgs_X4_isDigit : zlgs mX4_isDigit = [] := rfl
theorem zow_X4_isSignOf : zow mX4_isSignOf = 4 := rfl
theorem zlgs_X4_isSignOf : zlgs mX4_isSignOf = [] := rfl
theorem zow_X4_readLine : zow mX4_readLine = 4 := rfl
theorem zlgs_X4_readLine : zlgs mX4_readLine = [] := rfl
theorem zow_X4_isWord : zow mX4_isWord = 4 := rfl
theorem zlgs_X4_isWord : zlgs mX4_isWord = [] := rfl
theorem zow_X4_wrong : zow mX4_wrong = 4 := rfl
theorem zlgs_X4_wrong : zlgs mX4_wrong = [] := rfl
theorem zow_X4_readLet : zow mX4_readLet = 4 := rfl
theorem zlgs_X4_readLet : zlgs mX4_readLet = [2] := rfl
theorem zow_X4_isName : zow mX4_isName = 4 := rfl
theorem zlgs_X4_isName : zlgs mX4_isName = [] := rfl
theorem zow_X4_findName : zow mX4_findName = 4 := rfl
theorem zlgs_X4_findName : zlgs mX4_findName = [] := rfl
theorem zow_X4_takeSign : zow mX4_takeSign = 4 := rfl
theorem zlgs_X4_takeSign : zlgs mX4_takeSign = [] := rfl
theorem zow_X4_isSign : zow mX4_isSign = 4 := rfl
theorem zlgs_X4_isSign : zlgs mX4_isSign = [] := rfl
theorem zow_X4_readTests : zow mX4_readTests = 4 := rfl
theorem zlgs_X4_readTests : zlgs mX4_readTests = [] := rfl
theorem zow_X4_all : zow mX4_all = 4 := rfl
theorem zlgs_X4_all : zlgs mX4_all = [] := rfl
theorem zow_X4_test : zow mX4_test = 4 := rfl
theorem zlgs_X4_test : zlgs mX4_test = [] := rfl
theorem zow_X4_sums : zow mX4_sums = 4 := rfl
theorem zlgs_X4_sums : zlgs mX4_sums = [] := rfl
theorem zow_X4_products : zow mX4_products = 4 := rfl
theorem zlgs_X4_products : zlgs mX4_products = [] := rfl
theorem zow_X4_takePart : zow mX4_takePart = 4 := rfl
theorem zlgs_X4_takePart : zlgs mX4_takePart = [] := rfl
theorem zow_X4_hasWord : zow mX4_hasWord = 4 := rfl
theorem zlgs_X4_hasWord : zlgs mX4_hasWord = [] := rfl
theorem zow_X4_emit : zow mX4_emit = 4 := rfl
theorem zlgs_X4_emit : zlgs mX4_emit = [] := rfl
theorem zow_X4_takeNumber : zow mX4_takeNumber = 4 := rfl
theorem zlgs_X4_takeNumber : zlgs mX4_takeNumber = [] := rfl
theorem zow_X4_hasSign : zow mX4_hasSign = 4 := rfl
theorem zlgs_X4_hasSign : zlgs mX4_hasSign = [] := rfl
theorem zow_X4_takeWord : zow mX4_takeWord = 4 := rfl
theorem zlgs_X4_takeWord : zlgs mX4_takeWord = [] := rfl
theorem zow_X4_keeps : zow mX4_keeps = 4 := rfl
theorem zlgs_X4_keeps : zlgs mX4_keeps = [] := rfl
theorem zow_X4_days : zow mX4_days = 4 := rfl
theorem zlgs_X4_days : zlgs mX4_days = [] := rfl
theorem zow_X4_within : zow mX4_within = 4 := rfl
theorem zlgs_X4_within : zlgs mX4_within = [] := rfl
theorem zow_X4_view : zow mX4_view = 4 := rfl
theorem zlgs_X4_view : zlgs mX4_view = [] := rfl
theorem zow_X4_shop : zow mX4_shop = 4 := rfl
theorem zlgs_X4_shop : zlgs mX4_shop = [] := rfl
theorem zow_X4_isPlace : zow mX4_isPlace = 4 := rfl
theorem zlgs_X4_isPlace : zlgs mX4_isPlace = [] := rfl
theorem zow_X4_buyer : zow mX4_buyer = 4 := rfl
theorem zlgs_X4_buyer : zlgs mX4_buyer = [] := rfl
theorem zow_X4_terms : zow mX4_terms = 4 := rfl
theorem zlgs_X4_terms : zlgs mX4_terms = [] := rfl
theorem zow_X4_rest : zow mX4_rest = 4 := rfl
theorem zlgs_X4_rest : zlgs mX4_rest = [] := rfl
theorem zow_X4_visit : zow mX4_visit = 4 := rfl
theorem zlgs_X4_visit : zlgs mX4_visit = [] := rfl
theorem zow_X4_isShop : zow mX4_isShop = 4 := rfl
theorem zlgs_X4_isShop : zlgs mX4_isShop = [] := rfl
theorem zow_X4_isBuyer : zow mX4_isBuyer = 4 := rfl
theorem zlgs_X4_isBuyer : zlgs mX4_isBuyer = [] := rfl
theorem zow_X4_visitsOf : zow mX4_visitsOf = 4 := rfl
theorem zlgs_X4_visitsOf : zlgs mX4_visitsOf = [] := rfl
theorem zow_X4_appeal : zow mX4_appeal = 4 := rfl
theorem zlgs_X4_appeal : zlgs mX4_appeal = [] := rfl
theorem zow_X4_look : zow mX4_look = 4 := rfl
theorem zlgs_X4_look : zlgs mX4_look = [] := rfl
theorem zow_X4_isSeen : zow mX4_isSeen = 4 := rfl
theorem zlgs_X4_isSeen : zlgs mX4_isSeen = [] := rfl
theorem zow_X4_viewDay : zow mX4_viewDay = 4 := rfl
theorem zlgs_X4_viewDay : zlgs mX4_viewDay = [] := rfl
theorem zow_X4_findAll : zow mX4_findAll = 4 := rfl
theorem zlgs_X4_findAll : zlgs mX4_findAll = [] := rfl
theorem zow_X4_isAhead : zow mX4_isAhead = 4 := rfl
theorem zlgs_X4_isAhead : zlgs mX4_isAhead = [] := rfl
theorem zow_X4_latest : zow mX4_latest = 4 := rfl
theorem zlgs_X4_latest : zlgs mX4_latest = [] := rfl
theorem zow_X4_formNow : zow mX4_formNow = 4 := rfl
theorem zlgs_X4_formNow : zlgs mX4_formNow = [] := rfl
theorem zow_X4_tells : zow mX4_tells = 4 := rfl
theorem zlgs_X4_tells : zlgs mX4_tells = [] := rfl
theorem zow_X4_bits : zow mX4_bits = 4 := rfl
theorem zlgs_X4_bits : zlgs mX4_bits = [] := rfl
theorem zow_X4_briefOf : zow mX4_briefOf = 4 := rfl
theorem zlgs_X4_briefOf : zlgs mX4_briefOf = [] := rfl
theorem zow_X4_judges : zow mX4_judges = 4 := rfl
theorem zlgs_X4_judges : zlgs mX4_judges = [] := rfl
theorem zow_X4_worth : zow mX4_worth = 4 := rfl
theorem zlgs_X4_worth : zlgs mX4_worth = [] := rfl
theorem zow_X4_both : zow mX4_both = 4 := rfl
theorem zlgs_X4_both : zlgs mX4_both = [] := rfl
theorem zow_X4_isAlone : zow mX4_isAlone = 4 := rfl
theorem zlgs_X4_isAlone : zlgs mX4_isAlone = [] := rfl
theorem zow_X4_findFewest : zow mX4_findFewest = 4 := rfl
theorem zlgs_X4_findFewest : zlgs mX4_findFewest = [] := rfl
theorem zow_X4_areBoth : zow mX4_areBoth = 4 := rfl
theorem zlgs_X4_areBoth : zlgs mX4_areBoth = [] := rfl
theorem zow_X4_wayBetween : zow mX4_wayBetween = 4 := rfl
theorem zlgs_X4_wayBetween : zlgs mX4_wayBetween = [] := rfl
theorem zow_X4_doesDo : zow mX4_doesDo = 4 := rfl
theorem zlgs_X4_doesDo : zlgs mX4_doesDo = [] := rfl
theorem zow_X4_isFirst : zow mX4_isFirst = 4 := rfl
theorem zlgs_X4_isFirst : zlgs mX4_isFirst = [] := rfl
theorem zow_X4_counts : zow mX4_counts = 4 := rfl
theorem zlgs_X4_counts : zlgs mX4_counts = [] := rfl
theorem zow_X4_fewest : zow mX4_fewest = 4 := rfl
theorem zlgs_X4_fewest : zlgs mX4_fewest = [] := rfl
theorem zow_X4_isDay : zow mX4_isDay = 4 := rfl
theorem zlgs_X4_isDay : zlgs mX4_isDay = [] := rfl
theorem zow_X4_set : zow mX4_set = 4 := rfl
theorem zlgs_X4_set : zlgs mX4_set = [] := rfl
theorem zow_X4_fair : zow mX4_fair = 4 := rfl
theorem zlgs_X4_fair : zlgs mX4_fair = [] := rfl
theorem zow_X4_findLeans : zow mX4_findLeans = 4 := rfl
theorem zlgs_X4_findLeans : zlgs mX4_findLeans = [] := rfl
theorem zow_X4_isMeeting : zow mX4_isMeeting = 4 := rfl
theorem zlgs_X4_isMeeting : zlgs mX4_isMeeting = [] := rfl
theorem zow_X4_fairOf : zow mX4_fairOf = 4 := rfl
theorem zlgs_X4_fairOf : zlgs mX4_fairOf = [] := rfl
theorem zow_X4_lean : zow mX4_lean = 4 := rfl
theorem zlgs_X4_lean : zlgs mX4_lean = [] := rfl
theorem zow_X4_meetings : zow mX4_meetings = 4 := rfl
theorem zlgs_X4_meetings : zlgs mX4_meetings = [] := rfl
theorem zow_X4_mean : zow mX4_mean = 4 := rfl
theorem zlgs_X4_mean : zlgs mX4_mean = [] := rfl
theorem zow_X4_hasMean : zow mX4_hasMean = 4 := rfl
theorem zlgs_X4_hasMean : zlgs mX4_hasMean = [] := rfl
theorem zow_X4_areDays : zow mX4_areDays = 4 := rfl
theorem zlgs_X4_areDays : zlgs mX4_areDays = [] := rfl
theorem zow_X4_findMeans : zow mX4_findMeans = 4 := rfl
theorem zlgs_X4_findMeans : zlgs mX4_findMeans = [] := rfl
theorem zow_X4_doubt : zow mX4_doubt = 4 := rfl
theorem zlgs_X4_doubt : zlgs mX4_doubt = [] := rfl
theorem zow_X4_doubtOf : zow mX4_doubtOf = 4 := rfl
theorem zlgs_X4_doubtOf : zlgs mX4_doubtOf = [] := rfl
theorem zow_X4_apart : zow mX4_apart = 4 := rfl
theorem zlgs_X4_apart : zlgs mX4_apart = [] := rfl
theorem zow_X4_areTwo : zow mX4_areTwo = 4 := rfl
theorem zlgs_X4_areTwo : zlgs mX4_areTwo = [] := rfl
theorem zow_X4_isLess : zow mX4_isLess = 4 := rfl
theorem zlgs_X4_isLess : zlgs mX4_isLess = [] := rfl
theorem zow_X4_order : zow mX4_order = 4 := rfl
theorem zlgs_X4_order : zlgs mX4_order = [] := rfl
theorem zow_X4_enough : zow mX4_enough = 4 := rfl
theorem zlgs_X4_enough : zlgs mX4_enough = [] := rfl
theorem zow_X4_may : zow mX4_may = 4 := rfl
theorem zlgs_X4_may : zlgs mX4_may = [] := rfl
theorem zow_X4_mayGo : zow mX4_mayGo = 4 := rfl
theorem zlgs_X4_mayGo : zlgs mX4_mayGo = [] := rfl
theorem zow_X4_given : zow mX4_given = 4 := rfl
theorem zlgs_X4_given : zlgs mX4_given = [] := rfl
theorem zow_X4_gives : zow mX4_gives = 4 := rfl
theorem zlgs_X4_gives : zlgs mX4_gives = [] := rfl
theorem zow_X4_wayOf : zow mX4_wayOf = 4 := rfl
theorem zlgs_X4_wayOf : zlgs mX4_wayOf = [] := rfl
theorem zow_X4_sumBy : zow mX4_sumBy = 4 := rfl
theorem zlgs_X4_sumBy : zlgs mX4_sumBy = [] := rfl
theorem zow_X4_drawn : zow mX4_drawn = 4 := rfl
theorem zlgs_X4_drawn : zlgs mX4_drawn = [4] := rfl
theorem zow_X4_sway : zow mX4_sway = 4 := rfl
theorem zlgs_X4_sway : zlgs mX4_sway = [] := rfl
theorem zow_X4_sum : zow mX4_sum = 4 := rfl
theorem zlgs_X4_sum : zlgs mX4_sum = [] := rfl
theorem zow_X4_count : zow mX4_count = 4 := rfl
theorem zlgs_X4_count : zlgs mX4_count = [] := rfl
theorem zow_X5_init : zow mX5_init = 5 := rfl
theorem zlgs_X5_init : zlgs mX5_init = [] := rfl
theorem zow_X6_init : zow mX6_init = 6 := rfl
theorem zlgs_X6_init : zlgs mX6_init = [] := rfl
theorem zow_X6_way : zow mX6_way = 6 := rfl
theorem zlgs_X6_way : zlgs mX6_way = [] := rfl
theorem zow_X7_init : zow mX7_init = 7 := rfl
theorem zlgs_X7_init : zlgs mX7_init = [] := rfl
theorem zow_X7_canBeAlone : zow mX7_canBeAlone = 7 := rfl
theorem zlgs_X7_canBeAlone : zlgs mX7_canBeAlone = [] := rfl
theorem zow_X7_behind : zow mX7_behind = 7 := rfl
theorem zlgs_X7_behind : zlgs mX7_behind = [] := rfl
theorem zow_X7_isAheadOf : zow mX7_isAheadOf = 7 := rfl
theorem zlgs_X7_isAheadOf : zlgs mX7_isAheadOf = [] := rfl
theorem zow_X7_quarrels : zow mX7_quarrels = 7 := rfl
theorem zlgs_X7_quarrels : zlgs mX7_quarrels = [] := rfl
theorem zow_X7_meets : zow mX7_meets = 7 := rfl
theorem zlgs_X7_meets : zlgs mX7_meets = [] := rfl
theorem zow_X7_counts : zow mX7_counts = 7 := rfl
theorem zlgs_X7_counts : zlgs mX7_counts = [] := rfl
theorem zow_X8_init : zow mX8_init = 8 := rfl
theorem zlgs_X8_init : zlgs mX8_init = [] := rfl
theorem zow_X9_init : zow mX9_init = 9 := rfl
theorem zlgs_X9_init : zlgs mX9_init = [] := rfl
theorem zow_X9_score : zow mX9_score = 9 := rfl
theorem zlgs_X9_score : zlgs mX9_score = [] := rfl
theorem zow_X9_asks : zow mX9_asks = 9 := rfl
theorem zlgs_X9_asks : zlgs mX9_asks = [] := rfl
theorem zow_X9_bonus : zow mX9_bonus = 9 := rfl
theorem zlgs_X9_bonus : zlgs mX9_bonus = [] := rfl
theorem zow_X10_init : zow mX10_init = 10 := rfl
theorem zlgs_X10_init : zlgs mX10_init = [] := rfl
theorem zow_X11_init : zow mX11_init = 11 := rfl
theorem zlgs_X11_init : zlgs mX11_init = [] := rfl
theorem zow_X12_init : zow mX12_init = 12 := rfl
theorem zlgs_X12_init : zlgs mX12_init = [] := rfl
theorem zow_X12_value : zow mX12_value = 12 := rfl
theorem zlgs_X12_value : zlgs mX12_value = [] := rfl
theorem zow_X13_init : zow mX13_init = 13 := rfl
theorem zlgs_X13_init : zlgs mX13_init = [] := rfl
theorem zow_X13_value : zow mX13_value = 13 := rfl
theorem zlgs_X13_value : zlgs mX13_value = [] := rfl
theorem zow_X14_init : zow mX14_init = 14 := rfl
theorem zlgs_X14_init : zlgs mX14_init = [] := rfl
theorem zow_X14_value : zow mX14_value = 14 := rfl
theorem zlgs_X14_value : zlgs mX14_value = [] := rfl
theorem zow_X15_init : zow mX15_init = 15 := rfl
theorem zlgs_X15_init : zlgs mX15_init = [] := rfl
theorem zow_X15_value : zow mX15_value = 15 := rfl
theorem zlgs_X15_value : zlgs mX15_value = [] := rfl
theorem zow_X16_init : zow mX16_init = 16 := rfl
theorem zlgs_X16_init : zlgs mX16_init = [] := rfl
theorem zow_X16_and : zow mX16_and = 16 := rfl
theorem zlgs_X16_and : zlgs mX16_and = [] := rfl
theorem zow_X16_value : zow mX16_value = 16 := rfl
theorem zlgs_X16_value : zlgs mX16_value = [] := rfl
theorem zow_X16_worked : zow mX16_worked = 16 := rfl
theorem zlgs_X16_worked : zlgs mX16_worked = [] := rfl
theorem zow_X17_init : zow mX17_init = 17 := rfl
theorem zlgs_X17_init : zlgs mX17_init = [] := rfl
theorem zow_X17_holds : zow mX17_holds = 17 := rfl
theorem zlgs_X17_holds : zlgs mX17_holds = [] := rfl
theorem zow_X17_fails : zow mX17_fails = 17 := rfl
theorem zlgs_X17_fails : zlgs mX17_fails = [] := rfl
theorem zow_X17_adds : zow mX17_adds = 17 := rfl
theorem zlgs_X17_adds : zlgs mX17_adds = [] := rfl
theorem zow_X17_bonus : zow mX17_bonus = 17 := rfl
theorem zlgs_X17_bonus : zlgs mX17_bonus = [] := rfl
theorem zow_X18_init : zow mX18_init = 18 := rfl
theorem zlgs_X18_init : zlgs mX18_init = [] := rfl
theorem zow_X18_fails : zow mX18_fails = 18 := rfl
theorem zlgs_X18_fails : zlgs mX18_fails = [] := rfl
theorem zow_X19_init : zow mX19_init = 19 := rfl
theorem zlgs_X19_init : zlgs mX19_init = [] := rfl
theorem zow_X19_adds : zow mX19_adds = 19 := rfl
theorem zlgs_X19_adds : zlgs mX19_adds = [] := rfl
theorem zow_X20_init : zow mX20_init = 20 := rfl
theorem zlgs_X20_init : zlgs mX20_init = [] := rfl
theorem zow_X20_bonus : zow mX20_bonus = 20 := rfl
theorem zlgs_X20_bonus : zlgs mX20_bonus = [] := rfl
theorem zow_J0_init : zow mJ0_init = 21 := rfl
theorem zlgs_J0_init : zlgs mJ0_init = [] := rfl
theorem zow_J1_init : zow mJ1_init = 22 := rfl
theorem zlgs_J1_init : zlgs mJ1_init = [] := rfl
theorem zow_J2_init : zow mJ2_init = 23 := rfl
theorem zlgs_J2_init : zlgs mJ2_init = [] := rfl
theorem zow_J2_size : zow mJ2_size = 23 := rfl
theorem zlgs_J2_size : zlgs mJ2_size = [] := rfl
theorem zow_J2_add : zow mJ2_add = 23 := rfl
theorem zlgs_J2_add : zlgs mJ2_add = [] := rfl
theorem zow_J2_add_2 : zow mJ2_add_2 = 23 := rfl
theorem zlgs_J2_add_2 : zlgs mJ2_add_2 = [] := rfl
theorem zow_J2_grow : zow mJ2_grow = 23 := rfl
theorem zlgs_J2_grow : zlgs mJ2_grow = [] := rfl
theorem zow_J2_grow_2 : zow mJ2_grow_2 = 23 := rfl
theorem zlgs_J2_grow_2 : zlgs mJ2_grow_2 = [] := rfl
theorem zow_J2_get : zow mJ2_get = 23 := rfl
theorem zlgs_J2_get : zlgs mJ2_get = [] := rfl
theorem zow_J2_elementData : zow mJ2_elementData = 23 := rfl
theorem zlgs_J2_elementData : zlgs mJ2_elementData = [] := rfl
theorem zow_J2_contains : zow mJ2_contains = 23 := rfl
theorem zlgs_J2_contains : zlgs mJ2_contains = [] := rfl
theorem zow_J2_indexOf : zow mJ2_indexOf = 23 := rfl
theorem zlgs_J2_indexOf : zlgs mJ2_indexOf = [] := rfl
theorem zow_J2_indexOfRange : zow mJ2_indexOfRange = 23 := rfl
theorem zlgs_J2_indexOfRange : zlgs mJ2_indexOfRange = [] := rfl
theorem zow_J2_clear : zow mJ2_clear = 23 := rfl
theorem zlgs_J2_clear : zlgs mJ2_clear = [] := rfl
theorem zow_J2_add_3 : zow mJ2_add_3 = 23 := rfl
theorem zlgs_J2_add_3 : zlgs mJ2_add_3 = [] := rfl
theorem zow_J2_rangeCheckForAdd : zow mJ2_rangeCheckForAdd = 23 := rfl
theorem zlgs_J2_rangeCheckForAdd : zlgs mJ2_rangeCheckForAdd = [] := rfl
theorem zow_J3_newLength : zow mJ3_newLength = 24 := rfl
theorem zlgs_J3_newLength : zlgs mJ3_newLength = [] := rfl
theorem zow_J3_hugeLength : zow mJ3_hugeLength = 24 := rfl
theorem zlgs_J3_hugeLength : zlgs mJ3_hugeLength = [] := rfl
theorem zow_J4_max : zow mJ4_max = 25 := rfl
theorem zlgs_J4_max : zlgs mJ4_max = [] := rfl
theorem zow_J4_min : zow mJ4_min = 25 := rfl
theorem zlgs_J4_min : zlgs mJ4_min = [] := rfl
theorem zow_J4_abs : zow mJ4_abs = 25 := rfl
theorem zlgs_J4_abs : zlgs mJ4_abs = [] := rfl
theorem zow_J5_copyOf : zow mJ5_copyOf = 26 := rfl
theorem zlgs_J5_copyOf : zlgs mJ5_copyOf = [] := rfl
theorem zow_J5_copyOf_2 : zow mJ5_copyOf_2 = 26 := rfl
theorem zlgs_J5_copyOf_2 : zlgs mJ5_copyOf_2 = [] := rfl
theorem zow_J5_copyOf_3 : zow mJ5_copyOf_3 = 26 := rfl
theorem zlgs_J5_copyOf_3 : zlgs mJ5_copyOf_3 = [] := rfl
theorem zow_J5_copyOfRange : zow mJ5_copyOfRange = 26 := rfl
theorem zlgs_J5_copyOfRange : zlgs mJ5_copyOfRange = [] := rfl
theorem zow_J5_copyOfRangeByte : zow mJ5_copyOfRangeByte = 26 := rfl
theorem zlgs_J5_copyOfRangeByte : zlgs mJ5_copyOfRangeByte = [] := rfl
theorem zow_J5_checkLength : zow mJ5_checkLength = 26 := rfl
theorem zlgs_J5_checkLength : zlgs mJ5_checkLength = [] := rfl
theorem zow_J6_checkIndex : zow mJ6_checkIndex = 27 := rfl
theorem zlgs_J6_checkIndex : zlgs mJ6_checkIndex = [] := rfl
theorem zow_J7_checkIndex : zow mJ7_checkIndex = 28 := rfl
theorem zlgs_J7_checkIndex : zlgs mJ7_checkIndex = [] := rfl
theorem zow_J7_checkFromToIndex : zow mJ7_checkFromToIndex = 28 := rfl
theorem zlgs_J7_checkFromToIndex : zlgs mJ7_checkFromToIndex = [] := rfl
theorem zow_J7_checkFromIndexSize : zow mJ7_checkFromIndexSize = 28 := rfl
theorem zlgs_J7_checkFromIndexSize : zlgs mJ7_checkFromIndexSize = [] := rfl
theorem zow_J8_indexOf : zow mJ8_indexOf = 29 := rfl
theorem zlgs_J8_indexOf : zlgs mJ8_indexOf = [] := rfl
theorem zow_J8_indexOf_2 : zow mJ8_indexOf_2 = 29 := rfl
theorem zlgs_J8_indexOf_2 : zlgs mJ8_indexOf_2 = [] := rfl
theorem zow_J8_isLatin1 : zow mJ8_isLatin1 = 29 := rfl
theorem zlgs_J8_isLatin1 : zlgs mJ8_isLatin1 = [] := rfl
theorem zow_J8_length : zow mJ8_length = 29 := rfl
theorem zlgs_J8_length : zlgs mJ8_length = [] := rfl
theorem zow_J8_coder : zow mJ8_coder = 29 := rfl
theorem zlgs_J8_coder : zlgs mJ8_coder = [] := rfl
theorem zow_J8_checkBoundsBeginEnd : zow mJ8_checkBoundsBeginEnd = 29 := rfl
theorem zlgs_J8_checkBoundsBeginEnd : zlgs mJ8_checkBoundsBeginEnd = [] := rfl
theorem zow_J8_charAt : zow mJ8_charAt = 29 := rfl
theorem zlgs_J8_charAt : zlgs mJ8_charAt = [] := rfl
theorem zow_J8_checkIndex : zow mJ8_checkIndex = 29 := rfl
theorem zlgs_J8_checkIndex : zlgs mJ8_checkIndex = [] := rfl
theorem zow_J8_checkBoundsOffCount : zow mJ8_checkBoundsOffCount = 29 := rfl
theorem zlgs_J8_checkBoundsOffCount : zlgs mJ8_checkBoundsOffCount = [] := rfl
theorem zow_J8_init : zow mJ8_init = 29 := rfl
theorem zlgs_J8_init : zlgs mJ8_init = [] := rfl
theorem zow_J8_init_2 : zow mJ8_init_2 = 29 := rfl
theorem zlgs_J8_init_2 : zlgs mJ8_init_2 = [] := rfl
theorem zow_J8_equals : zow mJ8_equals = 29 := rfl
theorem zlgs_J8_equals : zlgs mJ8_equals = [] := rfl
theorem zow_J9_indexOf : zow mJ9_indexOf = 30 := rfl
theorem zlgs_J9_indexOf : zlgs mJ9_indexOf = [] := rfl
theorem zow_J9_canEncode : zow mJ9_canEncode = 30 := rfl
theorem zlgs_J9_canEncode : zlgs mJ9_canEncode = [] := rfl
theorem zow_J9_indexOfChar : zow mJ9_indexOfChar = 30 := rfl
theorem zlgs_J9_indexOfChar : zlgs mJ9_indexOfChar = [] := rfl
theorem zow_J9_charAt : zow mJ9_charAt = 30 := rfl
theorem zlgs_J9_charAt : zlgs mJ9_charAt = [] := rfl
theorem zow_J9_canEncode_2 : zow mJ9_canEncode_2 = 30 := rfl
theorem zlgs_J9_canEncode_2 : zlgs mJ9_canEncode_2 = [] := rfl
theorem zow_J9_inflate : zow mJ9_inflate = 30 := rfl
theorem zlgs_J9_inflate : zlgs mJ9_inflate = [] := rfl
theorem zow_J9_equals : zow mJ9_equals = 30 := rfl
theorem zlgs_J9_equals : zlgs mJ9_equals = [] := rfl
theorem zow_J12_init_2 : zow mJ12_init_2 = 33 := rfl
theorem zlgs_J12_init_2 : zlgs mJ12_init_2 = [] := rfl
theorem zow_J13_init : zow mJ13_init = 34 := rfl
theorem zlgs_J13_init : zlgs mJ13_init = [] := rfl
theorem zow_J13_init_2 : zow mJ13_init_2 = 34 := rfl
theorem zlgs_J13_init_2 : zlgs mJ13_init_2 = [] := rfl
theorem zow_J14_init : zow mJ14_init = 35 := rfl
theorem zlgs_J14_init : zlgs mJ14_init = [] := rfl
theorem zow_J14_init_2 : zow mJ14_init_2 = 35 := rfl
theorem zlgs_J14_init_2 : zlgs mJ14_init_2 = [] := rfl
theorem zow_J15_init : zow mJ15_init = 36 := rfl
theorem zlgs_J15_init : zlgs mJ15_init = [] := rfl
theorem zow_J15_append : zow mJ15_append = 36 := rfl
theorem zlgs_J15_append : zlgs mJ15_append = [] := rfl
theorem zow_J15_ensureCapacityInternal : zow mJ15_ensureCapacityInternal = 36 := rfl
theorem zlgs_J15_ensureCapacityInternal : zlgs mJ15_ensureCapacityInternal = [] := rfl
theorem zow_J15_newCapacity : zow mJ15_newCapacity = 36 := rfl
theorem zlgs_J15_newCapacity : zlgs mJ15_newCapacity = [] := rfl
theorem zow_J15_isLatin1 : zow mJ15_isLatin1 = 36 := rfl
theorem zlgs_J15_isLatin1 : zlgs mJ15_isLatin1 = [] := rfl
theorem zow_J15_inflate : zow mJ15_inflate = 36 := rfl
theorem zlgs_J15_inflate : zlgs mJ15_inflate = [] := rfl
theorem zow_J15_getValue : zow mJ15_getValue = 36 := rfl
theorem zlgs_J15_getValue : zlgs mJ15_getValue = [] := rfl
theorem zow_J15_length : zow mJ15_length = 36 := rfl
theorem zlgs_J15_length : zlgs mJ15_length = [] := rfl
theorem zow_J15_charAt : zow mJ15_charAt = 36 := rfl
theorem zlgs_J15_charAt : zlgs mJ15_charAt = [] := rfl
theorem zow_J16_init : zow mJ16_init = 37 := rfl
theorem zlgs_J16_init : zlgs mJ16_init = [] := rfl
theorem zow_J16_append : zow mJ16_append = 37 := rfl
theorem zlgs_J16_append : zlgs mJ16_append = [] := rfl
theorem zow_J16_toString : zow mJ16_toString = 37 := rfl
theorem zlgs_J16_toString : zlgs mJ16_toString = [] := rfl
theorem zow_J16_length : zow mJ16_length = 37 := rfl
theorem zlgs_J16_length : zlgs mJ16_length = [] := rfl
theorem zow_J16_charAt : zow mJ16_charAt = 37 := rfl
theorem zlgs_J16_charAt : zlgs mJ16_charAt = [] := rfl
theorem zow_J17_bitCount : zow mJ17_bitCount = 38 := rfl
theorem zlgs_J17_bitCount : zlgs mJ17_bitCount = [] := rfl
theorem zow_J18_init : zow mJ18_init = 39 := rfl
theorem zlgs_J18_init : zlgs mJ18_init = [] := rfl
theorem zow_J19_equals : zow mJ19_equals = 40 := rfl
theorem zlgs_J19_equals : zlgs mJ19_equals = [] := rfl
theorem zow_law : zow mLaw = 0 := rfl
theorem zlgs_law : zlgs mLaw = [] := rfl
theorem zrt_X0_look : (zm mX0_look).2.2.2.1 = (some .int) := rfl
theorem zrt_X0_fair : (zm mX0_fair).2.2.2.1 = (some .int) := rfl
theorem zrt_X0_lean : (zm mX0_lean).2.2.2.1 = (some .int) := rfl
theorem zrt_X0_mean : (zm mX0_mean).2.2.2.1 = (some .int) := rfl
theorem zrt_X1_init : (zm mX1_init).2.2.2.1 = none := rfl
theorem zrt_X1_days : (zm mX1_days).2.2.2.1 = (some .int) := rfl
theorem zrt_X1_in : (zm mX1_in).2.2.2.1 = (some .boolean) := rfl
theorem zrt_X1_changed : (zm mX1_changed).2.2.2.1 = (some .boolean) := rfl
theorem zrt_X1_view : (zm mX1_view).2.2.2.1 = (some .boolean) := rfl
theorem zrt_X1_shop : (zm mX1_shop).2.2.2.1 = (some .int) := rfl
theorem zrt_X1_buyer : (zm mX1_buyer).2.2.2.1 = (some .int) := rfl
theorem zrt_X1_terms : (zm mX1_terms).2.2.2.1 = (some .boolean) := rfl
theorem zrt_X1_rest : (zm mX1_rest).2.2.2.1 = (some .boolean) := rfl
theorem zrt_X1_visit : (zm mX1_visit).2.2.2.1 = (some .int) := rfl
theorem zrt_X1_isShop : (zm mX1_isShop).2.2.2.1 = (some .boolean) := rfl
theorem zrt_X1_isBuyer : (zm mX1_isBuyer).2.2.2.1 = (some .boolean) := rfl
theorem zrt_X1_appeal : (zm mX1_appeal).2.2.2.1 = (some .boolean) := rfl
theorem zrt_X1_isVisit : (zm mX1_isVisit).2.2.2.1 = (some .boolean) := rfl
theorem zrt_X1_feed : (zm mX1_feed).2.2.2.1 = (some .int) := rfl
theorem zrt_X1_brief : (zm mX1_brief).2.2.2.1 = (some .int) := rfl
theorem zrt_X1_isDay : (zm mX1_isDay).2.2.2.1 = (some .boolean) := rfl
theorem zrt_X1_fewest : (zm mX1_fewest).2.2.2.1 = (some .int) := rfl
theorem zrt_X1_works : (zm mX1_works).2.2.2.1 = none := rfl
theorem zrt_X1_sees : (zm mX1_sees).2.2.2.1 = none := rfl
theorem zrt_X1_day : (zm mX1_day).2.2.2.1 = (some .int) := rfl
theorem zrt_X1_scores : (zm mX1_scores).2.2.2.1 = none := rfl
theorem zrt_X1_isFirstOf : (zm mX1_isFirstOf).2.2.2.1 = (some .boolean) := rfl
theorem zrt_X1_seeks : (zm mX1_seeks).2.2.2.1 = (some .int) := rfl
theorem zrt_X1_parts : (zm mX1_parts).2.2.2.1 = (some .boolean) := rfl
theorem zrt_X1_leans : (zm mX1_leans).2.2.2.1 = none := rfl
theorem zrt_X1_set : (zm mX1_set).2.2.2.1 = (some .int) := rfl
theorem zrt_X1_meetings : (zm mX1_meetings).2.2.2.1 = (some .int) := rfl
theorem zrt_X1_doubt : (zm mX1_doubt).2.2.2.1 = (some .int) := rfl
theorem zrt_X1_areDays : (zm mX1_areDays).2.2.2.1 = (some .boolean) := rfl
theorem zrt_X1_meanOf : (zm mX1_meanOf).2.2.2.1 = (some .int) := rfl
theorem zrt_X1_fair : (zm mX1_fair).2.2.2.1 = (some .int) := rfl
theorem zrt_X1_apart : (zm mX1_apart).2.2.2.1 = (some .int) := rfl
theorem zrt_X1_order : (zm mX1_order).2.2.2.1 = (some .int) := rfl
theorem zrt_X1_row : (zm mX1_row).2.2.2.1 = (some .int) := rfl
theorem zrt_X1_enough : (zm mX1_enough).2.2.2.1 = (some .int) := rfl
theorem zrt_X1_may : (zm mX1_may).2.2.2.1 = (some .int) := rfl
theorem zrt_X1_mayGo : (zm mX1_mayGo).2.2.2.1 = (some .boolean) := rfl
theorem zrt_X1_given : (zm mX1_given).2.2.2.1 = (some .int) := rfl
theorem zrt_X1_sumBy : (zm mX1_sumBy).2.2.2.1 = (some .int) := rfl
theorem zrt_X1_drawn : (zm mX1_drawn).2.2.2.1 = (some .int) := rfl
theorem zrt_X1_latest : (zm mX1_latest).2.2.2.1 = (some (.object "SecretBuyers$Visit")) := rfl
theorem zrt_X1_sway : (zm mX1_sway).2.2.2.1 = (some .int) := rfl
theorem zrt_X1_sum : (zm mX1_sum).2.2.2.1 = (some .int) := rfl
theorem zrt_X1_count : (zm mX1_count).2.2.2.1 = (some .int) := rfl
theorem zrt_X1_look : (zm mX1_look).2.2.2.1 = (some .int) := rfl
theorem zrt_X1_visitAt : (zm mX1_visitAt).2.2.2.1 = (some (.object "SecretBuyers$Visit")) := rfl
theorem zrt_X1_need : (zm mX1_need).2.2.2.1 = none := rfl
theorem zrt_X1_fair_2 : (zm mX1_fair_2).2.2.2.1 = (some .int) := rfl
theorem zrt_X1_lean : (zm mX1_lean).2.2.2.1 = (some .int) := rfl
theorem zrt_X1_mean : (zm mX1_mean).2.2.2.1 = (some .int) := rfl
theorem zrt_X2_init : (zm mX2_init).2.2.2.1 = none := rfl
theorem zrt_X2_begin : (zm mX2_begin).2.2.2.1 = none := rfl
theorem zrt_X2_next : (zm mX2_next).2.2.2.1 = none := rfl
theorem zrt_X2_at : (zm mX2_at).2.2.2.1 = (some .int) := rfl
theorem zrt_X2_isLetter : (zm mX2_isLetter).2.2.2.1 = (some .boolean) := rfl
theorem zrt_X2_isDigit : (zm mX2_isDigit).2.2.2.1 = (some .boolean) := rfl
theorem zrt_X2_whole : (zm mX2_whole).2.2.2.1 = (some (.object "SecretBuyers$Brief")) := rfl
theorem zhs_X2_whole : (zm mX2_whole).2.2.2.2.2.2.1.isEmpty = true := rfl
theorem zrt_X2_which : (zm mX2_which).2.2.2.1 = (some .int) := rfl
theorem zrt_X2_wrong : (zm mX2_wrong).2.2.2.1 = (some (.object "SecretBuyers$Wrong")) := rfl
theorem zrt_X2_let : (zm mX2_let).2.2.2.1 = none := rfl
theorem zhs_X2_let : (zm mX2_let).2.2.2.2.2.2.1.isEmpty = true := rfl
theorem zrt_X2_name : (zm mX2_name).2.2.2.1 = (some (.object "java/lang/String")) := rfl
theorem zhs_X2_name : (zm mX2_name).2.2.2.2.2.2.1.isEmpty = true := rfl
theorem zrt_X2_need : (zm mX2_need).2.2.2.1 = none := rfl
theorem zhs_X2_need : (zm mX2_need).2.2.2.2.2.2.1.isEmpty = true := rfl
theorem zrt_X2_isSign : (zm mX2_isSign).2.2.2.1 = (some .boolean) := rfl
theorem zrt_X2_e : (zm mX2_e).2.2.2.1 = (some (.object "SecretBuyers$Exp")) := rfl
theorem zrt_X2_test : (zm mX2_test).2.2.2.1 = (some (.object "SecretBuyers$Exp")) := rfl
theorem zrt_X2_sum : (zm mX2_sum).2.2.2.1 = (some (.object "SecretBuyers$Exp")) := rfl
theorem zrt_X2_term : (zm mX2_term).2.2.2.1 = (some (.object "SecretBuyers$Exp")) := rfl
theorem zrt_X2_part : (zm mX2_part).2.2.2.1 = (some (.object "SecretBuyers$Exp")) := rfl
theorem zhs_X2_part : (zm mX2_part).2.2.2.2.2.2.1.isEmpty = true := rfl
theorem zrt_X2_number : (zm mX2_number).2.2.2.1 = (some .int) := rfl
theorem zhs_X2_number : (zm mX2_number).2.2.2.2.2.2.1.isEmpty = true := rfl
theorem zrt_X2_need_2 : (zm mX2_need_2).2.2.2.1 = none := rfl
theorem zhs_X2_need_2 : (zm mX2_need_2).2.2.2.2.2.2.1.isEmpty = true := rfl
theorem zrt_X2_meets : (zm mX2_meets).2.2.2.1 = (some .boolean) := rfl
theorem zrt_X3_init : (zm mX3_init).2.2.2.1 = none := rfl
theorem zrt_X3_be : (zm mX3_be).2.2.2.1 = none := rfl
theorem zrt_X4_thrown : (zm mX4_thrown).2.2.2.1 = (some .int) := rfl
theorem zrt_X4_feed : (zm mX4_feed).2.2.2.1 = (some .int) := rfl
theorem zrt_X4_lay : (zm mX4_lay).2.2.2.1 = none := rfl
theorem zrt_X4_init : (zm mX4_init).2.2.2.1 = none := rfl
theorem zrt_X4_brief : (zm mX4_brief).2.2.2.1 = (some .int) := rfl
theorem zrt_X4_cutAll : (zm mX4_cutAll).2.2.2.1 = none := rfl
theorem zrt_X4_isLetter : (zm mX4_isLetter).2.2.2.1 = (some .boolean) := rfl
theorem zrt_X4_rank : (zm mX4_rank).2.2.2.1 = (some .int) := rfl
theorem zrt_X4_isDigit : (zm mX4_isDigit).2.2.2.1 = (some .boolean) := rfl
theorem zrt_X4_isSignOf : (zm mX4_isSignOf).2.2.2.1 = (some .boolean) := rfl
theorem zrt_X4_readLine : (zm mX4_readLine).2.2.2.1 = none := rfl
theorem zrt_X4_isWord : (zm mX4_isWord).2.2.2.1 = (some .boolean) := rfl
theorem zrt_X4_wrong : (zm mX4_wrong).2.2.2.1 = none := rfl
theorem zrt_X4_readLet : (zm mX4_readLet).2.2.2.1 = none := rfl
theorem zrt_X4_isName : (zm mX4_isName).2.2.2.1 = (some .boolean) := rfl
theorem zrt_X4_findName : (zm mX4_findName).2.2.2.1 = (some .int) := rfl
theorem zrt_X4_takeSign : (zm mX4_takeSign).2.2.2.1 = none := rfl
theorem zrt_X4_isSign : (zm mX4_isSign).2.2.2.1 = (some .boolean) := rfl
theorem zrt_X4_readTests : (zm mX4_readTests).2.2.2.1 = (some .int) := rfl
theorem zrt_X4_all : (zm mX4_all).2.2.2.1 = none := rfl
theorem zrt_X4_test : (zm mX4_test).2.2.2.1 = none := rfl
theorem zrt_X4_sums : (zm mX4_sums).2.2.2.1 = none := rfl
theorem zrt_X4_products : (zm mX4_products).2.2.2.1 = none := rfl
theorem zrt_X4_takePart : (zm mX4_takePart).2.2.2.1 = none := rfl
theorem zrt_X4_hasWord : (zm mX4_hasWord).2.2.2.1 = (some .boolean) := rfl
theorem zrt_X4_emit : (zm mX4_emit).2.2.2.1 = none := rfl
theorem zrt_X4_takeNumber : (zm mX4_takeNumber).2.2.2.1 = (some .int) := rfl
theorem zrt_X4_hasSign : (zm mX4_hasSign).2.2.2.1 = (some .boolean) := rfl
theorem zrt_X4_takeWord : (zm mX4_takeWord).2.2.2.1 = none := rfl
theorem zrt_X4_keeps : (zm mX4_keeps).2.2.2.1 = none := rfl
theorem zrt_X4_days : (zm mX4_days).2.2.2.1 = (some .int) := rfl
theorem zrt_X4_within : (zm mX4_within).2.2.2.1 = (some .boolean) := rfl
theorem zrt_X4_view : (zm mX4_view).2.2.2.1 = (some .boolean) := rfl
theorem zrt_X4_shop : (zm mX4_shop).2.2.2.1 = (some .int) := rfl
theorem zrt_X4_isPlace : (zm mX4_isPlace).2.2.2.1 = (some .boolean) := rfl
theorem zrt_X4_buyer : (zm mX4_buyer).2.2.2.1 = (some .int) := rfl
theorem zrt_X4_terms : (zm mX4_terms).2.2.2.1 = (some .boolean) := rfl
theorem zrt_X4_rest : (zm mX4_rest).2.2.2.1 = (some .boolean) := rfl
theorem zrt_X4_visit : (zm mX4_visit).2.2.2.1 = (some .int) := rfl
theorem zrt_X4_isShop : (zm mX4_isShop).2.2.2.1 = (some .boolean) := rfl
theorem zrt_X4_isBuyer : (zm mX4_isBuyer).2.2.2.1 = (some .boolean) := rfl
theorem zrt_X4_visitsOf : (zm mX4_visitsOf).2.2.2.1 = (some .int) := rfl
theorem zrt_X4_appeal : (zm mX4_appeal).2.2.2.1 = (some .boolean) := rfl
theorem zrt_X4_look : (zm mX4_look).2.2.2.1 = (some .int) := rfl
theorem zrt_X4_isSeen : (zm mX4_isSeen).2.2.2.1 = (some .boolean) := rfl
theorem zrt_X4_viewDay : (zm mX4_viewDay).2.2.2.1 = (some .int) := rfl
theorem zrt_X4_findAll : (zm mX4_findAll).2.2.2.1 = none := rfl
theorem zrt_X4_isAhead : (zm mX4_isAhead).2.2.2.1 = (some .boolean) := rfl
theorem zrt_X4_latest : (zm mX4_latest).2.2.2.1 = (some .int) := rfl
theorem zrt_X4_formNow : (zm mX4_formNow).2.2.2.1 = (some .int) := rfl
theorem zrt_X4_tells : (zm mX4_tells).2.2.2.1 = none := rfl
theorem zrt_X4_bits : (zm mX4_bits).2.2.2.1 = (some .int) := rfl
theorem zrt_X4_briefOf : (zm mX4_briefOf).2.2.2.1 = (some .int) := rfl
theorem zrt_X4_judges : (zm mX4_judges).2.2.2.1 = none := rfl
theorem zrt_X4_worth : (zm mX4_worth).2.2.2.1 = (some .int) := rfl
theorem zrt_X4_both : (zm mX4_both).2.2.2.1 = (some .int) := rfl
theorem zrt_X4_isAlone : (zm mX4_isAlone).2.2.2.1 = (some .boolean) := rfl
theorem zrt_X4_findFewest : (zm mX4_findFewest).2.2.2.1 = none := rfl
theorem zrt_X4_areBoth : (zm mX4_areBoth).2.2.2.1 = (some .boolean) := rfl
theorem zrt_X4_wayBetween : (zm mX4_wayBetween).2.2.2.1 = (some .int) := rfl
theorem zrt_X4_doesDo : (zm mX4_doesDo).2.2.2.1 = (some .boolean) := rfl
theorem zrt_X4_isFirst : (zm mX4_isFirst).2.2.2.1 = (some .boolean) := rfl
theorem zrt_X4_counts : (zm mX4_counts).2.2.2.1 = (some .boolean) := rfl
theorem zrt_X4_fewest : (zm mX4_fewest).2.2.2.1 = (some .int) := rfl
theorem zrt_X4_isDay : (zm mX4_isDay).2.2.2.1 = (some .boolean) := rfl
theorem zrt_X4_set : (zm mX4_set).2.2.2.1 = (some .int) := rfl
theorem zrt_X4_fair : (zm mX4_fair).2.2.2.1 = (some .int) := rfl
theorem zrt_X4_findLeans : (zm mX4_findLeans).2.2.2.1 = none := rfl
theorem zrt_X4_isMeeting : (zm mX4_isMeeting).2.2.2.1 = (some .boolean) := rfl
theorem zrt_X4_fairOf : (zm mX4_fairOf).2.2.2.1 = (some .int) := rfl
theorem zrt_X4_lean : (zm mX4_lean).2.2.2.1 = (some .int) := rfl
theorem zrt_X4_meetings : (zm mX4_meetings).2.2.2.1 = (some .int) := rfl
theorem zrt_X4_mean : (zm mX4_mean).2.2.2.1 = (some .int) := rfl
theorem zrt_X4_hasMean : (zm mX4_hasMean).2.2.2.1 = (some .boolean) := rfl
theorem zrt_X4_areDays : (zm mX4_areDays).2.2.2.1 = (some .boolean) := rfl
theorem zrt_X4_findMeans : (zm mX4_findMeans).2.2.2.1 = none := rfl
theorem zrt_X4_doubt : (zm mX4_doubt).2.2.2.1 = (some .int) := rfl
theorem zrt_X4_doubtOf : (zm mX4_doubtOf).2.2.2.1 = (some .int) := rfl
theorem zrt_X4_apart : (zm mX4_apart).2.2.2.1 = (some .int) := rfl
theorem zrt_X4_areTwo : (zm mX4_areTwo).2.2.2.1 = (some .boolean) := rfl
theorem zrt_X4_isLess : (zm mX4_isLess).2.2.2.1 = (some .boolean) := rfl
theorem zrt_X4_order : (zm mX4_order).2.2.2.1 = (some .int) := rfl
theorem zrt_X4_enough : (zm mX4_enough).2.2.2.1 = (some .int) := rfl
theorem zrt_X4_may : (zm mX4_may).2.2.2.1 = (some .int) := rfl
theorem zrt_X4_mayGo : (zm mX4_mayGo).2.2.2.1 = (some .boolean) := rfl
theorem zrt_X4_given : (zm mX4_given).2.2.2.1 = (some .int) := rfl
theorem zrt_X4_gives : (zm mX4_gives).2.2.2.1 = (some .int) := rfl
theorem zrt_X4_wayOf : (zm mX4_wayOf).2.2.2.1 = (some .int) := rfl
theorem zrt_X4_sumBy : (zm mX4_sumBy).2.2.2.1 = (some .int) := rfl
theorem zrt_X4_drawn : (zm mX4_drawn).2.2.2.1 = (some .int) := rfl
theorem zrt_X4_sway : (zm mX4_sway).2.2.2.1 = (some .int) := rfl
theorem zrt_X4_sum : (zm mX4_sum).2.2.2.1 = (some .int) := rfl
theorem zrt_X4_count : (zm mX4_count).2.2.2.1 = (some .int) := rfl
theorem zrt_X5_init : (zm mX5_init).2.2.2.1 = none := rfl
theorem zrt_X6_init : (zm mX6_init).2.2.2.1 = none := rfl
theorem zrt_X6_way : (zm mX6_way).2.2.2.1 = (some .int) := rfl
theorem zrt_X7_init : (zm mX7_init).2.2.2.1 = none := rfl
theorem zrt_X7_canBeAlone : (zm mX7_canBeAlone).2.2.2.1 = (some .boolean) := rfl
theorem zrt_X7_behind : (zm mX7_behind).2.2.2.1 = (some .int) := rfl
theorem zrt_X7_isAheadOf : (zm mX7_isAheadOf).2.2.2.1 = (some .boolean) := rfl
theorem zrt_X7_quarrels : (zm mX7_quarrels).2.2.2.1 = (some .boolean) := rfl
theorem zrt_X7_meets : (zm mX7_meets).2.2.2.1 = (some .boolean) := rfl
theorem zrt_X7_counts : (zm mX7_counts).2.2.2.1 = (some .boolean) := rfl
theorem zrt_X8_init : (zm mX8_init).2.2.2.1 = none := rfl
theorem zrt_X9_init : (zm mX9_init).2.2.2.1 = none := rfl
theorem zrt_X9_score : (zm mX9_score).2.2.2.1 = (some .int) := rfl
theorem zrt_X9_asks : (zm mX9_asks).2.2.2.1 = (some .boolean) := rfl
theorem zrt_X9_bonus : (zm mX9_bonus).2.2.2.1 = (some .int) := rfl
theorem zrt_X10_init : (zm mX10_init).2.2.2.1 = none := rfl
theorem zrt_X11_init : (zm mX11_init).2.2.2.1 = none := rfl
theorem zrt_X12_init : (zm mX12_init).2.2.2.1 = none := rfl
theorem zrt_X12_value : (zm mX12_value).2.2.2.1 = (some .int) := rfl
theorem zrt_X13_init : (zm mX13_init).2.2.2.1 = none := rfl
theorem zrt_X13_value : (zm mX13_value).2.2.2.1 = (some .int) := rfl
theorem zrt_X14_init : (zm mX14_init).2.2.2.1 = none := rfl
theorem zrt_X14_value : (zm mX14_value).2.2.2.1 = (some .int) := rfl
theorem zrt_X15_init : (zm mX15_init).2.2.2.1 = none := rfl
theorem zrt_X15_value : (zm mX15_value).2.2.2.1 = (some .int) := rfl
theorem zrt_X16_init : (zm mX16_init).2.2.2.1 = none := rfl
theorem zrt_X16_and : (zm mX16_and).2.2.2.1 = (some (.object "SecretBuyers$Row")) := rfl
theorem zrt_X16_value : (zm mX16_value).2.2.2.1 = (some .int) := rfl
theorem zrt_X16_worked : (zm mX16_worked).2.2.2.1 = (some .int) := rfl
theorem zrt_X17_init : (zm mX17_init).2.2.2.1 = none := rfl
theorem zrt_X17_holds : (zm mX17_holds).2.2.2.1 = (some .boolean) := rfl
theorem zrt_X17_fails : (zm mX17_fails).2.2.2.1 = (some .boolean) := rfl
theorem zrt_X17_adds : (zm mX17_adds).2.2.2.1 = (some .int) := rfl
theorem zrt_X17_bonus : (zm mX17_bonus).2.2.2.1 = (some .int) := rfl
theorem zrt_X18_init : (zm mX18_init).2.2.2.1 = none := rfl
theorem zrt_X18_fails : (zm mX18_fails).2.2.2.1 = (some .boolean) := rfl
theorem zrt_X19_init : (zm mX19_init).2.2.2.1 = none := rfl
theorem zrt_X19_adds : (zm mX19_adds).2.2.2.1 = (some .int) := rfl
theorem zrt_X20_init : (zm mX20_init).2.2.2.1 = none := rfl
theorem zrt_X20_bonus : (zm mX20_bonus).2.2.2.1 = (some .int) := rfl
theorem zrt_J0_init : (zm mJ0_init).2.2.2.1 = none := rfl
theorem zrt_J1_init : (zm mJ1_init).2.2.2.1 = none := rfl
theorem zrt_J2_init : (zm mJ2_init).2.2.2.1 = none := rfl
theorem zrt_J2_size : (zm mJ2_size).2.2.2.1 = (some .int) := rfl
theorem zrt_J2_add : (zm mJ2_add).2.2.2.1 = (some .boolean) := rfl
theorem zrt_J2_add_2 : (zm mJ2_add_2).2.2.2.1 = none := rfl
theorem zrt_J2_grow : (zm mJ2_grow).2.2.2.1 = (some (.array (.object "java/lang/Object"))) := rfl
theorem zrt_J2_grow_2 : (zm mJ2_grow_2).2.2.2.1 = (some (.array (.object "java/lang/Object"))) := rfl
theorem zrt_J2_get : (zm mJ2_get).2.2.2.1 = (some (.object "java/lang/Object")) := rfl
theorem zrt_J2_elementData : (zm mJ2_elementData).2.2.2.1 = (some (.object "java/lang/Object")) := rfl
theorem zrt_J2_contains : (zm mJ2_contains).2.2.2.1 = (some .boolean) := rfl
theorem zrt_J2_indexOf : (zm mJ2_indexOf).2.2.2.1 = (some .int) := rfl
theorem zrt_J2_indexOfRange : (zm mJ2_indexOfRange).2.2.2.1 = (some .int) := rfl
theorem zrt_J2_clear : (zm mJ2_clear).2.2.2.1 = none := rfl
theorem zrt_J2_add_3 : (zm mJ2_add_3).2.2.2.1 = none := rfl
theorem zrt_J2_rangeCheckForAdd : (zm mJ2_rangeCheckForAdd).2.2.2.1 = none := rfl
theorem zrt_J3_newLength : (zm mJ3_newLength).2.2.2.1 = (some .int) := rfl
theorem zrt_J3_hugeLength : (zm mJ3_hugeLength).2.2.2.1 = (some .int) := rfl
theorem zrt_J4_max : (zm mJ4_max).2.2.2.1 = (some .int) := rfl
theorem zrt_J4_min : (zm mJ4_min).2.2.2.1 = (some .int) := rfl
theorem zrt_J4_abs : (zm mJ4_abs).2.2.2.1 = (some .int) := rfl
theorem zrt_J5_copyOf : (zm mJ5_copyOf).2.2.2.1 = (some (.array (.object "java/lang/Object"))) := rfl
theorem zrt_J5_copyOf_2 : (zm mJ5_copyOf_2).2.2.2.1 = (some (.array (.object "java/lang/Object"))) := rfl
theorem zrt_J5_copyOf_3 : (zm mJ5_copyOf_3).2.2.2.1 = (some (.array .byte)) := rfl
theorem zrt_J5_copyOfRange : (zm mJ5_copyOfRange).2.2.2.1 = (some (.array .byte)) := rfl
theorem zrt_J5_copyOfRangeByte : (zm mJ5_copyOfRangeByte).2.2.2.1 = (some (.array .byte)) := rfl
theorem zrt_J5_checkLength : (zm mJ5_checkLength).2.2.2.1 = none := rfl
theorem zrt_J6_checkIndex : (zm mJ6_checkIndex).2.2.2.1 = (some .int) := rfl
theorem zrt_J7_checkIndex : (zm mJ7_checkIndex).2.2.2.1 = (some .int) := rfl
theorem zrt_J7_checkFromToIndex : (zm mJ7_checkFromToIndex).2.2.2.1 = (some .int) := rfl
theorem zrt_J7_checkFromIndexSize : (zm mJ7_checkFromIndexSize).2.2.2.1 = (some .int) := rfl
theorem zrt_J8_indexOf : (zm mJ8_indexOf).2.2.2.1 = (some .int) := rfl
theorem zrt_J8_indexOf_2 : (zm mJ8_indexOf_2).2.2.2.1 = (some .int) := rfl
theorem zrt_J8_isLatin1 : (zm mJ8_isLatin1).2.2.2.1 = (some .boolean) := rfl
theorem zrt_J8_length : (zm mJ8_length).2.2.2.1 = (some .int) := rfl
theorem zrt_J8_coder : (zm mJ8_coder).2.2.2.1 = (some .byte) := rfl
theorem zrt_J8_checkBoundsBeginEnd : (zm mJ8_checkBoundsBeginEnd).2.2.2.1 = none := rfl
theorem zrt_J8_charAt : (zm mJ8_charAt).2.2.2.1 = (some .char) := rfl
theorem zrt_J8_checkIndex : (zm mJ8_checkIndex).2.2.2.1 = none := rfl
theorem zrt_J8_checkBoundsOffCount : (zm mJ8_checkBoundsOffCount).2.2.2.1 = (some .int) := rfl
theorem zrt_J8_init : (zm mJ8_init).2.2.2.1 = none := rfl
theorem zrt_J8_init_2 : (zm mJ8_init_2).2.2.2.1 = none := rfl
theorem zrt_J8_equals : (zm mJ8_equals).2.2.2.1 = (some .boolean) := rfl
theorem zrt_J9_indexOf : (zm mJ9_indexOf).2.2.2.1 = (some .int) := rfl
theorem zrt_J9_canEncode : (zm mJ9_canEncode).2.2.2.1 = (some .boolean) := rfl
theorem zrt_J9_indexOfChar : (zm mJ9_indexOfChar).2.2.2.1 = (some .int) := rfl
theorem zrt_J9_charAt : (zm mJ9_charAt).2.2.2.1 = (some .char) := rfl
theorem zrt_J9_canEncode_2 : (zm mJ9_canEncode_2).2.2.2.1 = (some .boolean) := rfl
theorem zrt_J9_inflate : (zm mJ9_inflate).2.2.2.1 = none := rfl
theorem zrt_J9_equals : (zm mJ9_equals).2.2.2.1 = (some .boolean) := rfl
theorem zrt_J12_init_2 : (zm mJ12_init_2).2.2.2.1 = none := rfl
theorem zrt_J13_init : (zm mJ13_init).2.2.2.1 = none := rfl
theorem zrt_J13_init_2 : (zm mJ13_init_2).2.2.2.1 = none := rfl
theorem zrt_J14_init : (zm mJ14_init).2.2.2.1 = none := rfl
theorem zrt_J14_init_2 : (zm mJ14_init_2).2.2.2.1 = none := rfl
theorem zrt_J15_init : (zm mJ15_init).2.2.2.1 = none := rfl
theorem zrt_J15_append : (zm mJ15_append).2.2.2.1 = (some (.object "java/lang/AbstractStringBuilder")) := rfl
theorem zrt_J15_ensureCapacityInternal : (zm mJ15_ensureCapacityInternal).2.2.2.1 = none := rfl
theorem zrt_J15_newCapacity : (zm mJ15_newCapacity).2.2.2.1 = (some .int) := rfl
theorem zrt_J15_isLatin1 : (zm mJ15_isLatin1).2.2.2.1 = (some .boolean) := rfl
theorem zrt_J15_inflate : (zm mJ15_inflate).2.2.2.1 = none := rfl
theorem zrt_J15_getValue : (zm mJ15_getValue).2.2.2.1 = (some (.array .byte)) := rfl
theorem zrt_J15_length : (zm mJ15_length).2.2.2.1 = (some .int) := rfl
theorem zrt_J15_charAt : (zm mJ15_charAt).2.2.2.1 = (some .char) := rfl
theorem zrt_J16_init : (zm mJ16_init).2.2.2.1 = none := rfl
theorem zrt_J16_append : (zm mJ16_append).2.2.2.1 = (some (.object "java/lang/StringBuilder")) := rfl
theorem zrt_J16_toString : (zm mJ16_toString).2.2.2.1 = (some (.object "java/lang/String")) := rfl
theorem zrt_J16_length : (zm mJ16_length).2.2.2.1 = (some .int) := rfl
theorem zrt_J16_charAt : (zm mJ16_charAt).2.2.2.1 = (some .char) := rfl
theorem zrt_J17_bitCount : (zm mJ17_bitCount).2.2.2.1 = (some .int) := rfl
theorem zrt_J18_init : (zm mJ18_init).2.2.2.1 = none := rfl
theorem zrt_J19_equals : (zm mJ19_equals).2.2.2.1 = (some .boolean) := rfl
theorem zrt_law : (zm mLaw).2.2.2.1 = some .boolean := rfl
theorem zfanew_1_81 : zfanew 1 81 = some (1, 81, 5, "SecretBuyers$Visit") := rfl
theorem zfanew_1_98 : zfanew 1 98 = some (1, 98, 6, "SecretBuyers$Shop") := rfl
theorem zfanew_23_7 : zfanew 23 7 = some (23, 7, 4, "java/lang/Object") := rfl
theorem zfanew_26_2 : zfanew 26 2 = some (26, 2, 4, "java/lang/Object") := rfl
theorem zac_1_113 : zacs.contains (1, 113) = false := rfl
theorem zac_1_178 : zacs.contains (1, 178) = false := rfl
theorem zac_1_281 : zacs.contains (1, 281) = false := rfl
theorem zac_1_296 : zacs.contains (1, 296) = false := rfl
theorem zac_1_325 : zacs.contains (1, 325) = false := rfl
theorem zac_1_333 : zacs.contains (1, 333) = false := rfl
theorem zac_1_345 : zacs.contains (1, 345) = false := rfl
theorem zac_1_362 : zacs.contains (1, 362) = false := rfl
theorem zac_16_49 : zacs.contains (16, 49) = false := rfl
theorem zac_2_56 : zacs.contains (2, 56) = false := rfl
theorem zac_2_60 : zacs.contains (2, 60) = false := rfl
theorem zac_23_112 : zacs.contains (23, 112) = true := rfl
theorem zac_23_118 : zacs.contains (23, 118) = false := rfl
theorem zac_23_66 : zacs.contains (23, 66) = false := rfl
theorem zac_23_73 : zacs.contains (23, 73) = false := rfl
theorem zac_23_79 : zacs.contains (23, 79) = false := rfl
theorem zac_24_194 : zacs.contains (24, 194) = false := rfl
theorem zac_24_201 : zacs.contains (24, 201) = false := rfl
theorem zac_26_150 : zacs.contains (26, 150) = true := rfl
theorem zac_26_300 : zacs.contains (26, 300) = false := rfl
theorem zac_26_304 : zacs.contains (26, 304) = false := rfl
theorem zac_26_339 : zacs.contains (26, 339) = false := rfl
theorem zac_26_343 : zacs.contains (26, 343) = false := rfl
theorem zac_27_105 : zacs.contains (27, 105) = false := rfl
theorem zac_29_1051 : zacs.contains (29, 1051) = false := rfl
theorem zac_29_1059 : zacs.contains (29, 1059) = false := rfl
theorem zac_29_1062 : zacs.contains (29, 1062) = false := rfl
theorem zac_29_1065 : zacs.contains (29, 1065) = false := rfl
theorem zac_29_47 : zacs.contains (29, 47) = false := rfl
theorem zac_29_495 : zacs.contains (29, 495) = false := rfl
theorem zac_29_498 : zacs.contains (29, 498) = false := rfl
theorem zac_29_54 : zacs.contains (29, 54) = false := rfl
theorem zac_29_541 : zacs.contains (29, 541) = false := rfl
theorem zac_29_637 : zacs.contains (29, 637) = false := rfl
theorem zac_29_640 : zacs.contains (29, 640) = false := rfl
theorem zac_3_18 : zacs.contains (3, 18) = false := rfl
theorem zac_30_240 : zacs.contains (30, 240) = false := rfl
theorem zac_30_38 : zacs.contains (30, 38) = false := rfl
theorem zac_30_88 : zacs.contains (30, 88) = false := rfl
theorem zac_30_9 : zacs.contains (30, 9) = false := rfl
theorem zac_30_92 : zacs.contains (30, 92) = false := rfl
theorem zac_30_95 : zacs.contains (30, 95) = false := rfl
theorem zac_36_108 : zacs.contains (36, 108) = false := rfl
theorem zac_36_114 : zacs.contains (36, 114) = false := rfl
theorem zac_36_125 : zacs.contains (36, 125) = false := rfl
theorem zac_36_138 : zacs.contains (36, 138) = false := rfl
theorem zac_36_144 : zacs.contains (36, 144) = false := rfl
theorem zac_36_148 : zacs.contains (36, 148) = false := rfl
theorem zac_36_191 : zacs.contains (36, 191) = false := rfl
theorem zac_36_197 : zacs.contains (36, 197) = false := rfl
theorem zac_36_26 : zacs.contains (36, 26) = false := rfl
theorem zac_4_234 : zacs.contains (4, 234) = false := rfl
theorem zac_4_243 : zacs.contains (4, 243) = false := rfl
theorem zac_4_247 : zacs.contains (4, 247) = false := rfl
theorem zac_4_254 : zacs.contains (4, 254) = false := rfl
theorem zac_4_345 : zacs.contains (4, 345) = false := rfl
theorem zac_4_358 : zacs.contains (4, 358) = false := rfl
theorem zac_4_362 : zacs.contains (4, 362) = false := rfl
theorem zac_4_391 : zacs.contains (4, 391) = false := rfl
theorem zac_4_431 : zacs.contains (4, 431) = false := rfl
theorem zac_4_447 : zacs.contains (4, 447) = false := rfl
theorem zac_4_456 : zacs.contains (4, 456) = false := rfl
theorem zac_4_468 : zacs.contains (4, 468) = false := rfl
theorem zac_6_16 : zacs.contains (6, 16) = false := rfl
theorem zac_9_76 : zacs.contains (9, 76) = false := rfl
theorem zac_9_82 : zacs.contains (9, 82) = false := rfl
theorem zfld_1_100 : zfld 1 100 = some (1, 100, 27, 6, [0], false) := rfl
theorem zfld_1_104 : zfld 1 104 = some (1, 104, 28, 6, [0], false) := rfl
theorem zfld_1_110 : zfld 1 110 = some (1, 110, 0, 0, [0], false) := rfl
theorem zfld_1_13 : zfld 1 13 = some (1, 13, 3, 0, [0], false) := rfl
theorem zfld_1_148 : zfld 1 148 = some (1, 148, 1, 0, [6], true) := rfl
theorem zfld_1_151 : zfld 1 151 = some (1, 151, 2, 0, [6], true) := rfl
theorem zfld_1_16 : zfld 1 16 = some (1, 16, 4, 0, [0], false) := rfl
theorem zfld_1_160 : zfld 1 160 = some (1, 160, 8, 6, [6], true) := rfl
theorem zfld_1_164 : zfld 1 164 = some (1, 164, 5, 1, [4], true) := rfl
theorem zfld_1_167 : zfld 1 167 = some (1, 167, 7, 0, [6], true) := rfl
theorem zfld_1_175 : zfld 1 175 = some (1, 175, 2, 0, [0], false) := rfl
theorem zfld_1_19 : zfld 1 19 = some (1, 19, 5, 0, [0], false) := rfl
theorem zfld_1_191 : zfld 1 191 = some (1, 191, 6, 0, [9], true) := rfl
theorem zfld_1_217 : zfld 1 217 = some (1, 217, 9, 1, [6], true) := rfl
theorem zfld_1_22 : zfld 1 22 = some (1, 22, 6, 0, [0], false) := rfl
theorem zfld_1_220 : zfld 1 220 = some (1, 220, 5, 0, [6], true) := rfl
theorem zfld_1_223 : zfld 1 223 = some (1, 223, 10, 0, [6], true) := rfl
theorem zfld_1_226 : zfld 1 226 = some (1, 226, 0, 6, [7], true) := rfl
theorem zfld_1_230 : zfld 1 230 = some (1, 230, 2, 0, [7], true) := rfl
theorem zfld_1_231 : zfld 1 231 = some (1, 231, 1, 0, [7], true) := rfl
theorem zfld_1_237 : zfld 1 237 = some (1, 237, 14, 0, [6], true) := rfl
theorem zfld_1_240 : zfld 1 240 = some (1, 240, 15, 6, [6], true) := rfl
theorem zfld_1_246 : zfld 1 246 = some (1, 246, 0, 0, [8], true) := rfl
theorem zfld_1_247 : zfld 1 247 = some (1, 247, 1, 0, [8], true) := rfl
theorem zfld_1_25 : zfld 1 25 = some (1, 25, 7, 0, [0], false) := rfl
theorem zfld_1_250 : zfld 1 250 = some (1, 250, 1, 0, [4], true) := rfl
theorem zfld_1_251 : zfld 1 251 = some (1, 251, 2, 0, [8], true) := rfl
theorem zfld_1_260 : zfld 1 260 = some (1, 260, 11, 0, [6], true) := rfl
theorem zfld_1_263 : zfld 1 263 = some (1, 263, 12, 0, [6], true) := rfl
theorem zfld_1_272 : zfld 1 272 = some (1, 272, 13, 0, [6], true) := rfl
theorem zfld_1_274 : zfld 1 274 = some (1, 274, 22, 0, [0], false) := rfl
theorem zfld_1_290 : zfld 1 290 = some (1, 290, 23, 0, [0], false) := rfl
theorem zfld_1_311 : zfld 1 311 = some (1, 311, 0, 0, [6], true) := rfl
theorem zfld_1_321 : zfld 1 321 = some (1, 321, 24, 0, [0], false) := rfl
theorem zfld_1_324 : zfld 1 324 = some (1, 324, 0, 0, [4], true) := rfl
theorem zfld_1_33 : zfld 1 33 = some (1, 33, 8, 6, [0], false) := rfl
theorem zfld_1_349 : zfld 1 349 = some (1, 349, 4, 6, [4], true) := rfl
theorem zfld_1_37 : zfld 1 37 = some (1, 37, 9, 6, [0], false) := rfl
theorem zfld_1_40 : zfld 1 40 = some (1, 40, 10, 6, [0], false) := rfl
theorem zfld_1_43 : zfld 1 43 = some (1, 43, 11, 6, [0], false) := rfl
theorem zfld_1_46 : zfld 1 46 = some (1, 46, 12, 6, [0], false) := rfl
theorem zfld_1_49 : zfld 1 49 = some (1, 49, 13, 6, [0], false) := rfl
theorem zfld_1_56 : zfld 1 56 = some (1, 56, 14, 6, [0], false) := rfl
theorem zfld_1_63 : zfld 1 63 = some (1, 63, 15, 6, [0], false) := rfl
theorem zfld_1_67 : zfld 1 67 = some (1, 67, 16, 1, [0], false) := rfl
theorem zfld_1_71 : zfld 1 71 = some (1, 71, 17, 6, [0], false) := rfl
theorem zfld_1_74 : zfld 1 74 = some (1, 74, 18, 6, [0], false) := rfl
theorem zfld_1_78 : zfld 1 78 = some (1, 78, 19, 6, [0], false) := rfl
theorem zfld_1_83 : zfld 1 83 = some (1, 83, 20, 6, [0], false) := rfl
theorem zfld_1_87 : zfld 1 87 = some (1, 87, 21, 6, [0], false) := rfl
theorem zfld_1_9 : zfld 1 9 = some (1, 9, 1, 0, [0], false) := rfl
theorem zfld_1_90 : zfld 1 90 = some (1, 90, 25, 6, [0], false) := rfl
theorem zfld_1_95 : zfld 1 95 = some (1, 95, 26, 6, [0], false) := rfl
theorem zfld_10_7 : zfld 10 7 = some (10, 7, 6, 0, [9], false) := rfl
theorem zfld_12_13 : zfld 12 13 = some (12, 13, 0, 6, [2], true) := rfl
theorem zfld_12_7 : zfld 12 7 = some (12, 7, 0, 0, [10], false) := rfl
theorem zfld_13_13 : zfld 13 13 = some (13, 13, 1, 6, [2], true) := rfl
theorem zfld_13_7 : zfld 13 7 = some (13, 7, 0, 0, [11], false) := rfl
theorem zfld_14_7 : zfld 14 7 = some (14, 7, 0, 0, [12], false) := rfl
theorem zfld_15_7 : zfld 15 7 = some (15, 7, 0, 6, [13], false) := rfl
theorem zfld_16_12 : zfld 16 12 = some (16, 12, 0, 6, [14], false) := rfl
theorem zfld_16_21 : zfld 16 21 = some (16, 21, 1, 6, [14], false) := rfl
theorem zfld_17_9 : zfld 17 9 = some (17, 9, 0, 6, [15, 16, 17], false) := rfl
theorem zfld_19_7 : zfld 19 7 = some (19, 7, 1, 6, [16], false) := rfl
theorem zfld_2_129 : zfld 2 129 = some (2, 129, 3, 6, [8], true) := rfl
theorem zfld_2_15 : zfld 2 15 = some (2, 15, 9, 0, [1], false) := rfl
theorem zfld_2_173 : zfld 2 173 = some (2, 173, 4, 6, [8], true) := rfl
theorem zfld_2_18 : zfld 2 18 = some (2, 18, 10, 0, [1], false) := rfl
theorem zfld_2_181 : zfld 2 181 = some (2, 181, 5, 6, [8], true) := rfl
theorem zfld_2_21 : zfld 2 21 = some (2, 21, 0, 6, [1], false) := rfl
theorem zfld_2_25 : zfld 2 25 = some (2, 25, 1, 0, [1], false) := rfl
theorem zfld_2_28 : zfld 2 28 = some (2, 28, 2, 0, [1], false) := rfl
theorem zfld_2_31 : zfld 2 31 = some (2, 31, 6, 0, [1], false) := rfl
theorem zfld_2_39 : zfld 2 39 = some (2, 39, 7, 6, [1], false) := rfl
theorem zfld_2_46 : zfld 2 46 = some (2, 46, 4, 0, [1], false) := rfl
theorem zfld_2_49 : zfld 2 49 = some (2, 49, 3, 0, [1], false) := rfl
theorem zfld_2_63 : zfld 2 63 = some (2, 63, 5, 0, [1], false) := rfl
theorem zfld_2_9 : zfld 2 9 = some (2, 9, 8, 0, [1], false) := rfl
theorem zfld_20_7 : zfld 20 7 = some (20, 7, 1, 0, [17], false) := rfl
theorem zfld_22_7 : zfld 22 7 = some (22, 7, 0, 0, [18], false) := rfl
theorem zfld_23_48 : zfld 23 48 = some (23, 48, 2, 0, [18], false) := rfl
theorem zfld_23_63 : zfld 23 63 = some (23, 63, 0, 0, [18], false) := rfl
theorem zfld_23_9 : zfld 23 9 = some (23, 9, 1, 6, [18], false) := rfl
theorem zfld_29_1048 : zfld 29 1048 = some (29, 1048, 2, 1, [20], false) := rfl
theorem zfld_29_15 : zfld 29 15 = some (29, 15, 1, 2, [19, 21], false) := rfl
theorem zfld_29_9 : zfld 29 9 = some (29, 9, 0, 6, [19, 21], false) := rfl
theorem zfld_3_15 : zfld 3 15 = some (3, 15, 1, 6, [2], false) := rfl
theorem zfld_3_24 : zfld 3 24 = some (3, 24, 4, 0, [6], true) := rfl
theorem zfld_3_30 : zfld 3 30 = some (3, 30, 3, 0, [6], true) := rfl
theorem zfld_3_33 : zfld 3 33 = some (3, 33, 6, 0, [6], true) := rfl
theorem zfld_3_36 : zfld 3 36 = some (3, 36, 2, 0, [6], true) := rfl
theorem zfld_3_39 : zfld 3 39 = some (3, 39, 11, 0, [6], true) := rfl
theorem zfld_3_9 : zfld 3 9 = some (3, 9, 0, 6, [2], false) := rfl
theorem zfld_33_17 : zfld 33 17 = some (33, 17, 1, 6, [9], false) := rfl
theorem zfld_33_24 : zfld 33 24 = some (33, 24, 2, 6, [9], false) := rfl
theorem zfld_33_31 : zfld 33 31 = some (33, 31, 3, 6, [9], false) := rfl
theorem zfld_33_7 : zfld 33 7 = some (33, 7, 0, 6, [9], false) := rfl
theorem zfld_36_15 : zfld 36 15 = some (36, 15, 0, 6, [20], false) := rfl
theorem zfld_36_22 : zfld 36 22 = some (36, 22, 1, 2, [20], false) := rfl
theorem zfld_36_79 : zfld 36 79 = some (36, 79, 3, 0, [20], false) := rfl
theorem zfld_4_1 : zfld 4 1 = some (4, 1, 0, 0, [3], false) := rfl
theorem zfld_4_100 : zfld 4 100 = some (4, 100, 24, 6, [3], false) := rfl
theorem zfld_4_103 : zfld 4 103 = some (4, 103, 26, 6, [3], false) := rfl
theorem zfld_4_106 : zfld 4 106 = some (4, 106, 27, 6, [3], false) := rfl
theorem zfld_4_109 : zfld 4 109 = some (4, 109, 33, 6, [3], false) := rfl
theorem zfld_4_11 : zfld 4 11 = some (4, 11, 2, 0, [3], false) := rfl
theorem zfld_4_112 : zfld 4 112 = some (4, 112, 34, 6, [3], false) := rfl
theorem zfld_4_115 : zfld 4 115 = some (4, 115, 35, 6, [3], false) := rfl
theorem zfld_4_118 : zfld 4 118 = some (4, 118, 36, 6, [3], false) := rfl
theorem zfld_4_121 : zfld 4 121 = some (4, 121, 37, 6, [3], false) := rfl
theorem zfld_4_124 : zfld 4 124 = some (4, 124, 38, 6, [3], false) := rfl
theorem zfld_4_128 : zfld 4 128 = some (4, 128, 40, 6, [3], false) := rfl
theorem zfld_4_131 : zfld 4 131 = some (4, 131, 41, 6, [3], false) := rfl
theorem zfld_4_134 : zfld 4 134 = some (4, 134, 48, 6, [3], false) := rfl
theorem zfld_4_137 : zfld 4 137 = some (4, 137, 49, 6, [3], false) := rfl
theorem zfld_4_14 : zfld 4 14 = some (4, 14, 1, 6, [3], false) := rfl
theorem zfld_4_140 : zfld 4 140 = some (4, 140, 50, 6, [3], false) := rfl
theorem zfld_4_143 : zfld 4 143 = some (4, 143, 51, 6, [3], false) := rfl
theorem zfld_4_146 : zfld 4 146 = some (4, 146, 52, 6, [3], false) := rfl
theorem zfld_4_149 : zfld 4 149 = some (4, 149, 53, 6, [3], false) := rfl
theorem zfld_4_152 : zfld 4 152 = some (4, 152, 54, 6, [3], false) := rfl
theorem zfld_4_155 : zfld 4 155 = some (4, 155, 55, 6, [3], false) := rfl
theorem zfld_4_158 : zfld 4 158 = some (4, 158, 57, 6, [3], false) := rfl
theorem zfld_4_161 : zfld 4 161 = some (4, 161, 58, 6, [3], false) := rfl
theorem zfld_4_164 : zfld 4 164 = some (4, 164, 59, 6, [3], false) := rfl
theorem zfld_4_167 : zfld 4 167 = some (4, 167, 61, 6, [3], false) := rfl
theorem zfld_4_170 : zfld 4 170 = some (4, 170, 62, 6, [3], false) := rfl
theorem zfld_4_173 : zfld 4 173 = some (4, 173, 63, 6, [3], false) := rfl
theorem zfld_4_176 : zfld 4 176 = some (4, 176, 64, 6, [3], false) := rfl
theorem zfld_4_179 : zfld 4 179 = some (4, 179, 66, 6, [3], false) := rfl
theorem zfld_4_182 : zfld 4 182 = some (4, 182, 67, 6, [3], false) := rfl
theorem zfld_4_185 : zfld 4 185 = some (4, 185, 71, 6, [3], false) := rfl
theorem zfld_4_188 : zfld 4 188 = some (4, 188, 72, 6, [3], false) := rfl
theorem zfld_4_191 : zfld 4 191 = some (4, 191, 73, 6, [3], false) := rfl
theorem zfld_4_194 : zfld 4 194 = some (4, 194, 74, 6, [3], false) := rfl
theorem zfld_4_197 : zfld 4 197 = some (4, 197, 75, 6, [3], false) := rfl
theorem zfld_4_200 : zfld 4 200 = some (4, 200, 76, 6, [3], false) := rfl
theorem zfld_4_204 : zfld 4 204 = some (4, 204, 77, 6, [3], false) := rfl
theorem zfld_4_207 : zfld 4 207 = some (4, 207, 78, 6, [3], false) := rfl
theorem zfld_4_210 : zfld 4 210 = some (4, 210, 79, 6, [3], false) := rfl
theorem zfld_4_213 : zfld 4 213 = some (4, 213, 80, 6, [3], false) := rfl
theorem zfld_4_216 : zfld 4 216 = some (4, 216, 31, 0, [3], false) := rfl
theorem zfld_4_219 : zfld 4 219 = some (4, 219, 42, 0, [3], false) := rfl
theorem zfld_4_222 : zfld 4 222 = some (4, 222, 43, 0, [3], false) := rfl
theorem zfld_4_225 : zfld 4 225 = some (4, 225, 44, 0, [3], false) := rfl
theorem zfld_4_228 : zfld 4 228 = some (4, 228, 45, 0, [3], false) := rfl
theorem zfld_4_231 : zfld 4 231 = some (4, 231, 46, 0, [3], false) := rfl
theorem zfld_4_238 : zfld 4 238 = some (4, 238, 3, 0, [3], false) := rfl
theorem zfld_4_24 : zfld 4 24 = some (4, 24, 4, 6, [3], false) := rfl
theorem zfld_4_257 : zfld 4 257 = some (4, 257, 7, 0, [3], false) := rfl
theorem zfld_4_260 : zfld 4 260 = some (4, 260, 8, 0, [3], false) := rfl
theorem zfld_4_27 : zfld 4 27 = some (4, 27, 5, 6, [3], false) := rfl
theorem zfld_4_276 : zfld 4 276 = some (4, 276, 21, 0, [3], false) := rfl
theorem zfld_4_279 : zfld 4 279 = some (4, 279, 10, 0, [3], false) := rfl
theorem zfld_4_285 : zfld 4 285 = some (4, 285, 19, 0, [3], false) := rfl
theorem zfld_4_295 : zfld 4 295 = some (4, 295, 30, 0, [3], false) := rfl
theorem zfld_4_30 : zfld 4 30 = some (4, 30, 6, 6, [3], false) := rfl
theorem zfld_4_342 : zfld 4 342 = some (4, 342, 25, 0, [3], false) := rfl
theorem zfld_4_349 : zfld 4 349 = some (4, 349, 28, 0, [3], false) := rfl
theorem zfld_4_352 : zfld 4 352 = some (4, 352, 29, 0, [3], false) := rfl
theorem zfld_4_366 : zfld 4 366 = some (4, 366, 32, 0, [3], false) := rfl
theorem zfld_4_369 : zfld 4 369 = some (4, 369, 39, 0, [3], false) := rfl
theorem zfld_4_372 : zfld 4 372 = some (4, 372, 47, 0, [3], false) := rfl
theorem zfld_4_385 : zfld 4 385 = some (4, 385, 56, 0, [3], false) := rfl
theorem zfld_4_400 : zfld 4 400 = some (4, 400, 60, 0, [3], false) := rfl
theorem zfld_4_422 : zfld 4 422 = some (4, 422, 70, 0, [3], false) := rfl
theorem zfld_4_428 : zfld 4 428 = some (4, 428, 68, 0, [3], false) := rfl
theorem zfld_4_435 : zfld 4 435 = some (4, 435, 65, 0, [3], false) := rfl
theorem zfld_4_441 : zfld 4 441 = some (4, 441, 69, 0, [3], false) := rfl
theorem zfld_4_64 : zfld 4 64 = some (4, 64, 9, 6, [3], false) := rfl
theorem zfld_4_67 : zfld 4 67 = some (4, 67, 11, 6, [3], false) := rfl
theorem zfld_4_70 : zfld 4 70 = some (4, 70, 12, 6, [3], false) := rfl
theorem zfld_4_73 : zfld 4 73 = some (4, 73, 13, 6, [3], false) := rfl
theorem zfld_4_76 : zfld 4 76 = some (4, 76, 14, 6, [3], false) := rfl
theorem zfld_4_79 : zfld 4 79 = some (4, 79, 15, 6, [3], false) := rfl
theorem zfld_4_82 : zfld 4 82 = some (4, 82, 16, 6, [3], false) := rfl
theorem zfld_4_85 : zfld 4 85 = some (4, 85, 17, 6, [3], false) := rfl
theorem zfld_4_88 : zfld 4 88 = some (4, 88, 18, 6, [3], false) := rfl
theorem zfld_4_91 : zfld 4 91 = some (4, 91, 20, 6, [3], false) := rfl
theorem zfld_4_94 : zfld 4 94 = some (4, 94, 22, 6, [3], false) := rfl
theorem zfld_4_97 : zfld 4 97 = some (4, 97, 23, 6, [3], false) := rfl
theorem zfld_5_13 : zfld 5 13 = some (5, 13, 4, 6, [4], false) := rfl
theorem zfld_5_17 : zfld 5 17 = some (5, 17, 1, 0, [4], false) := rfl
theorem zfld_5_20 : zfld 5 20 = some (5, 20, 2, 0, [4], false) := rfl
theorem zfld_5_23 : zfld 5 23 = some (5, 23, 3, 0, [4], false) := rfl
theorem zfld_5_26 : zfld 5 26 = some (5, 26, 5, 1, [4], false) := rfl
theorem zfld_5_7 : zfld 5 7 = some (5, 7, 0, 0, [4], false) := rfl
theorem zfld_6_13 : zfld 6 13 = some (6, 13, 1, 0, [5], false) := rfl
theorem zfld_6_7 : zfld 6 7 = some (6, 7, 0, 0, [5], false) := rfl
theorem zfld_7_15 : zfld 7 15 = some (7, 15, 8, 6, [6], false) := rfl
theorem zfld_7_19 : zfld 7 19 = some (7, 19, 1, 0, [6], false) := rfl
theorem zfld_7_22 : zfld 7 22 = some (7, 22, 2, 0, [6], false) := rfl
theorem zfld_7_25 : zfld 7 25 = some (7, 25, 3, 0, [6], false) := rfl
theorem zfld_7_28 : zfld 7 28 = some (7, 28, 4, 0, [6], false) := rfl
theorem zfld_7_31 : zfld 7 31 = some (7, 31, 5, 0, [6], false) := rfl
theorem zfld_7_34 : zfld 7 34 = some (7, 34, 6, 0, [6], false) := rfl
theorem zfld_7_37 : zfld 7 37 = some (7, 37, 7, 0, [6], false) := rfl
theorem zfld_7_40 : zfld 7 40 = some (7, 40, 2, 0, [4], true) := rfl
theorem zfld_7_49 : zfld 7 49 = some (7, 49, 3, 0, [4], true) := rfl
theorem zfld_7_52 : zfld 7 52 = some (7, 52, 10, 0, [6], false) := rfl
theorem zfld_7_59 : zfld 7 59 = some (7, 59, 4, 6, [4], true) := rfl
theorem zfld_7_69 : zfld 7 69 = some (7, 69, 9, 1, [6], false) := rfl
theorem zfld_7_73 : zfld 7 73 = some (7, 73, 14, 0, [6], false) := rfl
theorem zfld_7_9 : zfld 7 9 = some (7, 9, 0, 0, [6], false) := rfl
theorem zfld_8_13 : zfld 8 13 = some (8, 13, 1, 0, [7], false) := rfl
theorem zfld_8_17 : zfld 8 17 = some (8, 17, 2, 0, [7], false) := rfl
theorem zfld_8_7 : zfld 8 7 = some (8, 7, 0, 6, [7], false) := rfl
theorem zfld_9_14 : zfld 9 14 = some (9, 14, 3, 6, [8], false) := rfl
theorem zfld_9_20 : zfld 9 20 = some (9, 20, 4, 6, [8], false) := rfl
theorem zfld_9_23 : zfld 9 23 = some (9, 23, 5, 6, [8], false) := rfl
theorem zfld_9_26 : zfld 9 26 = some (9, 26, 0, 0, [8], false) := rfl
theorem zfld_9_30 : zfld 9 30 = some (9, 30, 1, 0, [8], false) := rfl
theorem zfld_9_33 : zfld 9 33 = some (9, 33, 2, 0, [8], false) := rfl
theorem zfld_9_46 : zfld 9 46 = some (9, 46, 1, 6, [2], true) := rfl
theorem zfldI_1_361 : zfldI 1 361 = some (1, 361, 1000000) := rfl
theorem zfldI_24_200 : zfldI 24 200 = some (24, 200, 2147483639) := rfl
theorem zfldI_36_39 : zfldI 36 39 = some (36, 39, 2147483647) := rfl
theorem zfldI_38_265 : zfldI 38 265 = some (38, 265, 1431655765) := rfl
theorem zfldI_38_266 : zfldI 38 266 = some (38, 266, 858993459) := rfl
theorem zfldI_38_267 : zfldI 38 267 = some (38, 267, 252645135) := rfl
theorem zfldI_4_203 : zfldI 4 203 = some (4, 203, 59049) := rfl
theorem zfldI_4_490 : zfldI 4 490 = some (4, 490, 1000000) := rfl
theorem zfldI_2_105 : zfldI 2 105 = none := rfl
theorem zfldI_2_109 : zfldI 2 109 = none := rfl
theorem zfldI_2_124 : zfldI 2 124 = none := rfl
theorem zfldI_2_151 : zfldI 2 151 = none := rfl
theorem zfldI_2_187 : zfldI 2 187 = none := rfl
theorem zfldI_2_205 : zfldI 2 205 = none := rfl
theorem zfldI_2_207 : zfldI 2 207 = none := rfl
theorem zfldI_2_66 : zfldI 2 66 = none := rfl
theorem zlnk_0_102 : zlnk 0 102 = some (0, 102, 1, ⟨"SecretBuyersModel", "lean", "(I)I"⟩, 1, [(3, 148)], none) := rfl
theorem zlnk_0_106 : zlnk 0 106 = some (0, 106, 1, ⟨"SecretBuyersModel", "meetings", "(II)I"⟩, 2, [(3, 149)], none) := rfl
theorem zlnk_0_110 : zlnk 0 110 = some (0, 110, 1, ⟨"SecretBuyersModel", "mean", "(III)I"⟩, 3, [(3, 150)], none) := rfl
theorem zlnk_0_114 : zlnk 0 114 = some (0, 114, 1, ⟨"SecretBuyersModel", "doubt", "(III)I"⟩, 3, [(3, 154)], none) := rfl
theorem zlnk_0_119 : zlnk 0 119 = some (0, 119, 1, ⟨"SecretBuyersModel", "apart", "(IIII)I"⟩, 4, [(3, 156)], none) := rfl
theorem zlnk_0_123 : zlnk 0 123 = some (0, 123, 1, ⟨"SecretBuyersModel", "order", "(IIII)I"⟩, 4, [(3, 159)], none) := rfl
theorem zlnk_0_127 : zlnk 0 127 = some (0, 127, 1, ⟨"SecretBuyersModel", "enough", "(IIII)I"⟩, 4, [(3, 160)], none) := rfl
theorem zlnk_0_131 : zlnk 0 131 = some (0, 131, 1, ⟨"SecretBuyersModel", "may", "(III)I"⟩, 3, [(3, 161)], none) := rfl
theorem zlnk_0_135 : zlnk 0 135 = some (0, 135, 1, ⟨"SecretBuyersModel", "given", "(III)I"⟩, 3, [(3, 163)], none) := rfl
theorem zlnk_0_139 : zlnk 0 139 = some (0, 139, 1, ⟨"SecretBuyersModel", "drawn", "(III)I"⟩, 3, [(3, 167)], none) := rfl
theorem zlnk_0_143 : zlnk 0 143 = some (0, 143, 1, ⟨"SecretBuyersModel", "sway", "(II)I"⟩, 2, [(3, 168)], none) := rfl
theorem zlnk_0_147 : zlnk 0 147 = some (0, 147, 1, ⟨"SecretBuyersModel", "sum", "(IIII)I"⟩, 4, [(3, 169)], none) := rfl
theorem zlnk_0_15 : zlnk 0 15 = some (0, 15, 1, ⟨"SecretBuyers", "fair", "(I)I"⟩, 1, [(0, 52)], none) := rfl
theorem zlnk_0_151 : zlnk 0 151 = some (0, 151, 1, ⟨"SecretBuyersModel", "count", "(I)I"⟩, 1, [(3, 170)], none) := rfl
theorem zlnk_0_19 : zlnk 0 19 = some (0, 19, 1, ⟨"SecretBuyers", "lean", "(I)I"⟩, 1, [(0, 53)], none) := rfl
theorem zlnk_0_22 : zlnk 0 22 = some (0, 22, 1, ⟨"SecretBuyers", "mean", "(III)I"⟩, 3, [(0, 54)], none) := rfl
theorem zlnk_0_26 : zlnk 0 26 = some (0, 26, 2, ⟨"SecretBuyers", "<init>", "()V"⟩, 0, [(0, 4)], none) := rfl
theorem zlnk_0_29 : zlnk 0 29 = some (0, 29, 2, ⟨"SecretBuyersModel", "<init>", "()V"⟩, 0, [(0, 81)], none) := rfl
theorem zlnk_0_33 : zlnk 0 33 = some (0, 33, 1, ⟨"SecretBuyersModel", "days", "(I)I"⟩, 1, [(3, 108)], none) := rfl
theorem zlnk_0_38 : zlnk 0 38 = some (0, 38, 1, ⟨"SecretBuyersModel", "view", "(I)Z"⟩, 1, [(3, 110)], none) := rfl
theorem zlnk_0_39 : zlnk 0 39 = some (0, 39, 1, ⟨"SecretBuyers", "shop", "(IIIIIZ)I"⟩, 6, [(0, 9)], none) := rfl
theorem zlnk_0_43 : zlnk 0 43 = some (0, 43, 1, ⟨"SecretBuyersModel", "shop", "(IIIIIZ)I"⟩, 6, [(3, 111)], none) := rfl
theorem zlnk_0_47 : zlnk 0 47 = some (0, 47, 1, ⟨"SecretBuyersModel", "buyer", "(II)I"⟩, 2, [(3, 113)], none) := rfl
theorem zlnk_0_52 : zlnk 0 52 = some (0, 52, 1, ⟨"SecretBuyersModel", "terms", "(III)Z"⟩, 3, [(3, 114)], none) := rfl
theorem zlnk_0_57 : zlnk 0 57 = some (0, 57, 1, ⟨"SecretBuyersModel", "rest", "(II)Z"⟩, 2, [(3, 115)], none) := rfl
theorem zlnk_0_62 : zlnk 0 62 = some (0, 62, 1, ⟨"SecretBuyersModel", "visit", "(IIIIIII)I"⟩, 7, [(3, 116)], none) := rfl
theorem zlnk_0_66 : zlnk 0 66 = some (0, 66, 1, ⟨"SecretBuyersModel", "appeal", "(II)Z"⟩, 2, [(3, 120)], none) := rfl
theorem zlnk_0_7 : zlnk 0 7 = some (0, 7, 1, ⟨"SecretBuyers", "look", "(II)I"⟩, 2, [(0, 49)], none) := rfl
theorem zlnk_0_73 : zlnk 0 73 = some (0, 73, 1, ⟨"SecretBuyersModel", "feed", "(JJJ)I"⟩, 3, [(3, 79)], none) := rfl
theorem zlnk_0_77 : zlnk 0 77 = some (0, 77, 1, ⟨"SecretBuyersModel", "brief", "(II)I"⟩, 2, [(3, 82)], none) := rfl
theorem zlnk_0_83 : zlnk 0 83 = some (0, 83, 1, ⟨"SecretBuyersModel", "look", "(II)I"⟩, 2, [(3, 121)], none) := rfl
theorem zlnk_0_84 : zlnk 0 84 = some (0, 84, 1, ⟨"SecretBuyersModel", "thrown", "()I"⟩, 0, [(3, 78)], none) := rfl
theorem zlnk_0_91 : zlnk 0 91 = some (0, 91, 1, ⟨"SecretBuyersModel", "fair", "(I)I"⟩, 1, [(3, 144)], none) := rfl
theorem zlnk_0_95 : zlnk 0 95 = some (0, 95, 1, ⟨"SecretBuyersModel", "fewest", "(II)I"⟩, 2, [(3, 141)], none) := rfl
theorem zlnk_0_99 : zlnk 0 99 = some (0, 99, 1, ⟨"SecretBuyersModel", "set", "(III)I"⟩, 3, [(3, 143)], none) := rfl
theorem zlnk_1_113 : zlnk 1 113 = some (1, 113, 0, ⟨"SecretBuyers", "in", "(III)Z"⟩, 3, [(0, 6)], none) := rfl
theorem zlnk_1_117 : zlnk 1 117 = some (1, 117, 1, ⟨"SecretBuyers", "changed", "()Z"⟩, 0, [(0, 7)], none) := rfl
theorem zlnk_1_121 : zlnk 1 121 = some (1, 121, 1, ⟨"java/util/ArrayList", "size", "()I"⟩, 0, [(18, 214)], none) := rfl
theorem zlnk_1_127 : zlnk 1 127 = some (1, 127, 2, ⟨"SecretBuyers$Place", "<init>", "(II)V"⟩, 2, [(0, 172)], none) := rfl
theorem zlnk_1_130 : zlnk 1 130 = some (1, 130, 2, ⟨"SecretBuyers$Shop", "<init>", "(ILSecretBuyers$Place;IIIZ)V"⟩, 6, [(0, 171)], none) := rfl
theorem zlnk_1_133 : zlnk 1 133 = some (1, 133, 1, ⟨"java/util/ArrayList", "add", "(Ljava/lang/Object;)Z"⟩, 1, [(18, 215)], none) := rfl
theorem zlnk_1_137 : zlnk 1 137 = some (1, 137, 1, ⟨"SecretBuyers", "isShop", "(I)Z"⟩, 1, [(0, 14)], none) := rfl
theorem zlnk_1_141 : zlnk 1 141 = some (1, 141, 1, ⟨"SecretBuyers", "isBuyer", "(I)Z"⟩, 1, [(0, 15)], none) := rfl
theorem zlnk_1_144 : zlnk 1 144 = some (1, 144, 1, ⟨"java/util/ArrayList", "get", "(I)Ljava/lang/Object;"⟩, 1, [(18, 219)], none) := rfl
theorem zlnk_1_154 : zlnk 1 154 = some (1, 154, 2, ⟨"SecretBuyers$Visit", "<init>", "(ILSecretBuyers$Shop;IIIIIII)V"⟩, 9, [(0, 174)], none) := rfl
theorem zlnk_1_157 : zlnk 1 157 = some (1, 157, 1, ⟨"SecretBuyers", "isVisit", "(I)Z"⟩, 1, [(0, 17)], none) := rfl
theorem zlnk_1_172 : zlnk 1 172 = some (1, 172, 2, ⟨"SecretBuyers$Appeal", "<init>", "(LSecretBuyers$Visit;II)V"⟩, 3, [(0, 181)], none) := rfl
theorem zlnk_1_178 : zlnk 1 178 = some (1, 178, 0, ⟨"SecretBuyers", "isDay", "(I)Z"⟩, 1, [(0, 20)], none) := rfl
theorem zlnk_1_181 : zlnk 1 181 = some (1, 181, 1, ⟨"SecretBuyers$Reader", "begin", "([BIIII)V"⟩, 5, [(1, 56)], none) := rfl
theorem zlnk_1_185 : zlnk 1 185 = some (1, 185, 1, ⟨"SecretBuyers$Reader", "whole", "()LSecretBuyers$Brief;"⟩, 0, [(1, 61)], none) := rfl
theorem zlnk_1_194 : zlnk 1 194 = some (1, 194, 1, ⟨"java/util/ArrayList", "clear", "()V"⟩, 0, [(18, 224)], none) := rfl
theorem zlnk_1_197 : zlnk 1 197 = some (1, 197, 1, ⟨"SecretBuyers", "sees", "(LSecretBuyers$Visit;)V"⟩, 1, [(0, 23)], none) := rfl
theorem zlnk_1_201 : zlnk 1 201 = some (1, 201, 1, ⟨"SecretBuyers", "scores", "(LSecretBuyers$Visit;)V"⟩, 1, [(0, 25)], none) := rfl
theorem zlnk_1_204 : zlnk 1 204 = some (1, 204, 1, ⟨"SecretBuyers", "isFirstOf", "(LSecretBuyers$Visit;)Z"⟩, 1, [(0, 26)], none) := rfl
theorem zlnk_1_208 : zlnk 1 208 = some (1, 208, 1, ⟨"SecretBuyers", "seeks", "(IIZ)I"⟩, 3, [(0, 27)], none) := rfl
theorem zlnk_1_212 : zlnk 1 212 = some (1, 212, 1, ⟨"SecretBuyers", "leans", "()V"⟩, 0, [(0, 29)], none) := rfl
theorem zlnk_1_215 : zlnk 1 215 = some (1, 215, 1, ⟨"SecretBuyers", "day", "()I"⟩, 0, [(0, 24)], none) := rfl
theorem zlnk_1_234 : zlnk 1 234 = some (1, 234, 1, ⟨"SecretBuyers$Visit", "canBeAlone", "()Z"⟩, 0, [(6, 175)], none) := rfl
theorem zlnk_1_254 : zlnk 1 254 = some (1, 254, 1, ⟨"SecretBuyers$Visit", "isAheadOf", "(LSecretBuyers$Visit;)Z"⟩, 1, [(6, 177)], none) := rfl
theorem zlnk_1_257 : zlnk 1 257 = some (1, 257, 1, ⟨"java/util/ArrayList", "add", "(ILjava/lang/Object;)V"⟩, 2, [(18, 225)], none) := rfl
theorem zlnk_1_266 : zlnk 1 266 = some (1, 266, 1, ⟨"SecretBuyers$Brief", "score", "(LSecretBuyers$Ask;LSecretBuyers$Visit;I)I"⟩, 3, [(8, 183)], none) := rfl
theorem zlnk_1_269 : zlnk 1 269 = some (1, 269, 1, ⟨"SecretBuyers$Brief", "bonus", "(LSecretBuyers$Ask;LSecretBuyers$Visit;I)I"⟩, 3, [(8, 185)], none) := rfl
theorem zlnk_1_277 : zlnk 1 277 = some (1, 277, 1, ⟨"SecretBuyers$Visit", "quarrels", "(LSecretBuyers$Visit;I)Z"⟩, 2, [(6, 178)], none) := rfl
theorem zlnk_1_281 : zlnk 1 281 = some (1, 281, 0, ⟨"java/lang/Integer", "bitCount", "(I)I"⟩, 1, [(0, 302)], none) := rfl
theorem zlnk_1_287 : zlnk 1 287 = some (1, 287, 1, ⟨"SecretBuyers", "parts", "(I)Z"⟩, 1, [(0, 28)], none) := rfl
theorem zlnk_1_293 : zlnk 1 293 = some (1, 293, 1, ⟨"SecretBuyers", "works", "()V"⟩, 0, [(0, 22)], none) := rfl
theorem zlnk_1_296 : zlnk 1 296 = some (1, 296, 0, ⟨"SecretBuyers", "need", "(Z)V"⟩, 1, [(0, 51)], none) := rfl
theorem zlnk_1_30 : zlnk 1 30 = some (1, 30, 2, ⟨"java/util/ArrayList", "<init>", "(I)V"⟩, 1, [(0, 213)], none) := rfl
theorem zlnk_1_300 : zlnk 1 300 = some (1, 300, 1, ⟨"SecretBuyers", "visitAt", "(I)LSecretBuyers$Visit;"⟩, 1, [(0, 50)], none) := rfl
theorem zlnk_1_304 : zlnk 1 304 = some (1, 304, 1, ⟨"SecretBuyers$Visit", "counts", "()Z"⟩, 0, [(6, 180)], none) := rfl
theorem zlnk_1_314 : zlnk 1 314 = some (1, 314, 1, ⟨"SecretBuyers$Visit", "meets", "(LSecretBuyers$Visit;)Z"⟩, 1, [(6, 179)], none) := rfl
theorem zlnk_1_317 : zlnk 1 317 = some (1, 317, 1, ⟨"SecretBuyers", "fair", "(LSecretBuyers$Visit;)I"⟩, 1, [(0, 35)], none) := rfl
theorem zlnk_1_325 : zlnk 1 325 = some (1, 325, 0, ⟨"SecretBuyers", "areDays", "(II)Z"⟩, 2, [(0, 33)], none) := rfl
theorem zlnk_1_329 : zlnk 1 329 = some (1, 329, 1, ⟨"SecretBuyers", "meanOf", "(III)I"⟩, 3, [(0, 34)], none) := rfl
theorem zlnk_1_333 : zlnk 1 333 = some (1, 333, 0, ⟨"java/lang/Math", "abs", "(I)I"⟩, 1, [(0, 231)], none) := rfl
theorem zlnk_1_338 : zlnk 1 338 = some (1, 338, 1, ⟨"SecretBuyers", "apart", "(IIII)I"⟩, 4, [(0, 36)], none) := rfl
theorem zlnk_1_342 : zlnk 1 342 = some (1, 342, 1, ⟨"SecretBuyers", "row", "(IIII)I"⟩, 4, [(0, 38)], none) := rfl
theorem zlnk_1_345 : zlnk 1 345 = some (1, 345, 0, ⟨"java/lang/Math", "max", "(II)I"⟩, 2, [(0, 229)], none) := rfl
theorem zlnk_1_353 : zlnk 1 353 = some (1, 353, 1, ⟨"SecretBuyers$Place", "way", "(LSecretBuyers$Place;)I"⟩, 1, [(5, 173)], none) := rfl
theorem zlnk_1_357 : zlnk 1 357 = some (1, 357, 1, ⟨"SecretBuyers", "mayGo", "(ILSecretBuyers$Shop;I)Z"⟩, 3, [(0, 41)], none) := rfl
theorem zlnk_1_362 : zlnk 1 362 = some (1, 362, 0, ⟨"java/lang/Math", "min", "(II)I"⟩, 2, [(0, 230)], none) := rfl
theorem zlnk_1_365 : zlnk 1 365 = some (1, 365, 1, ⟨"SecretBuyers", "sumBy", "(IIII)I"⟩, 4, [(0, 43)], none) := rfl
theorem zlnk_1_368 : zlnk 1 368 = some (1, 368, 1, ⟨"SecretBuyers", "latest", "(I)LSecretBuyers$Visit;"⟩, 1, [(0, 45)], none) := rfl
theorem zlnk_1_55 : zlnk 1 55 = some (1, 55, 3, ⟨"SecretBuyers$Reader", "<init>", "()V"⟩, 0, [(0, 55)], none) := rfl
theorem zlnk_1_62 : zlnk 1 62 = some (1, 62, 3, ⟨"SecretBuyers$Ask", "<init>", "()V"⟩, 0, [(0, 76)], none) := rfl
theorem zlnk_10_1 : zlnk 10 1 = some (10, 1, 2, ⟨"java/lang/RuntimeException", "<init>", "(Ljava/lang/String;Ljava/lang/Throwable;ZZ)V"⟩, 4, [(0, 286)], none) := rfl
theorem zlnk_12_1 : zlnk 12 1 = some (12, 1, 3, ⟨"SecretBuyers$Exp", "<init>", "()V"⟩, 0, [(0, 187)], none) := rfl
theorem zlnk_13_1 : zlnk 13 1 = some (13, 1, 3, ⟨"SecretBuyers$Exp", "<init>", "()V"⟩, 0, [(0, 187)], none) := rfl
theorem zlnk_14_1 : zlnk 14 1 = some (14, 1, 3, ⟨"SecretBuyers$Exp", "<init>", "()V"⟩, 0, [(0, 187)], none) := rfl
theorem zlnk_15_1 : zlnk 15 1 = some (15, 1, 3, ⟨"SecretBuyers$Exp", "<init>", "()V"⟩, 0, [(0, 187)], none) := rfl
theorem zlnk_15_13 : zlnk 15 13 = some (15, 13, 1, ⟨"SecretBuyers$Exp", "value", "(LSecretBuyers$Ask;)I"⟩, 1, [(10, 189), (11, 191), (12, 193), (13, 195), (14, 198)], some "SecretBuyers$Exp") := rfl
theorem zlnk_16_1 : zlnk 16 1 = some (16, 1, 3, ⟨"SecretBuyers$Exp", "<init>", "()V"⟩, 0, [(0, 187)], none) := rfl
theorem zlnk_16_20 : zlnk 16 20 = some (16, 20, 2, ⟨"java/lang/StringBuilder", "<init>", "(I)V"⟩, 1, [(0, 297)], none) := rfl
theorem zlnk_16_25 : zlnk 16 25 = some (16, 25, 1, ⟨"java/util/ArrayList", "add", "(Ljava/lang/Object;)Z"⟩, 1, [(18, 215)], none) := rfl
theorem zlnk_16_29 : zlnk 16 29 = some (16, 29, 1, ⟨"java/lang/StringBuilder", "append", "(C)Ljava/lang/StringBuilder;"⟩, 1, [(20, 298)], none) := rfl
theorem zlnk_16_33 : zlnk 16 33 = some (16, 33, 1, ⟨"java/util/ArrayList", "get", "(I)Ljava/lang/Object;"⟩, 1, [(18, 219)], none) := rfl
theorem zlnk_16_37 : zlnk 16 37 = some (16, 37, 1, ⟨"SecretBuyers$Exp", "value", "(LSecretBuyers$Ask;)I"⟩, 1, [(10, 189), (11, 191), (12, 193), (13, 195), (14, 198)], some "SecretBuyers$Exp") := rfl
theorem zlnk_16_41 : zlnk 16 41 = some (16, 41, 1, ⟨"java/util/ArrayList", "size", "()I"⟩, 0, [(18, 214)], none) := rfl
theorem zlnk_16_45 : zlnk 16 45 = some (16, 45, 1, ⟨"java/lang/StringBuilder", "charAt", "(I)C"⟩, 1, [(20, 301)], none) := rfl
theorem zlnk_16_49 : zlnk 16 49 = some (16, 49, 0, ⟨"SecretBuyers$Row", "worked", "(CII)I"⟩, 3, [(0, 199)], none) := rfl
theorem zlnk_16_9 : zlnk 16 9 = some (16, 9, 2, ⟨"java/util/ArrayList", "<init>", "(I)V"⟩, 1, [(0, 213)], none) := rfl
theorem zlnk_17_15 : zlnk 17 15 = some (17, 15, 1, ⟨"SecretBuyers$Exp", "value", "(LSecretBuyers$Ask;)I"⟩, 1, [(10, 189), (11, 191), (12, 193), (13, 195), (14, 198)], some "SecretBuyers$Exp") := rfl
theorem zlnk_18_1 : zlnk 18 1 = some (18, 1, 2, ⟨"SecretBuyers$Line", "<init>", "(LSecretBuyers$Exp;)V"⟩, 1, [(0, 200)], none) := rfl
theorem zlnk_18_7 : zlnk 18 7 = some (18, 7, 1, ⟨"SecretBuyers$Must", "holds", "(LSecretBuyers$Ask;)Z"⟩, 1, [(15, 201)], some "SecretBuyers$Line") := rfl
theorem zlnk_19_1 : zlnk 19 1 = some (19, 1, 2, ⟨"SecretBuyers$Line", "<init>", "(LSecretBuyers$Exp;)V"⟩, 1, [(0, 200)], none) := rfl
theorem zlnk_19_13 : zlnk 19 13 = some (19, 13, 1, ⟨"SecretBuyers$Exp", "value", "(LSecretBuyers$Ask;)I"⟩, 1, [(10, 189), (11, 191), (12, 193), (13, 195), (14, 198)], some "SecretBuyers$Exp") := rfl
theorem zlnk_2_101 : zlnk 2 101 = some (2, 101, 1, ⟨"SecretBuyers$Reader", "isSign", "(C)Z"⟩, 1, [(1, 67)], none) := rfl
theorem zlnk_2_113 : zlnk 2 113 = some (2, 113, 2, ⟨"java/lang/StringBuilder", "<init>", "(I)V"⟩, 1, [(0, 297)], none) := rfl
theorem zlnk_2_116 : zlnk 2 116 = some (2, 116, 1, ⟨"java/lang/StringBuilder", "append", "(C)Ljava/lang/StringBuilder;"⟩, 1, [(20, 298)], none) := rfl
theorem zlnk_2_120 : zlnk 2 120 = some (2, 120, 1, ⟨"java/lang/StringBuilder", "toString", "()Ljava/lang/String;"⟩, 0, [(20, 299)], none) := rfl
theorem zlnk_2_126 : zlnk 2 126 = some (2, 126, 1, ⟨"SecretBuyers$Reader", "let", "()V"⟩, 0, [(1, 64)], none) := rfl
theorem zlnk_2_135 : zlnk 2 135 = some (2, 135, 1, ⟨"SecretBuyers$Reader", "e", "()LSecretBuyers$Exp;"⟩, 0, [(1, 68)], none) := rfl
theorem zlnk_2_139 : zlnk 2 139 = some (2, 139, 2, ⟨"SecretBuyers$Must", "<init>", "(LSecretBuyers$Exp;)V"⟩, 1, [(0, 205)], none) := rfl
theorem zlnk_2_142 : zlnk 2 142 = some (2, 142, 1, ⟨"java/util/ArrayList", "add", "(Ljava/lang/Object;)Z"⟩, 1, [(18, 215)], none) := rfl
theorem zlnk_2_148 : zlnk 2 148 = some (2, 148, 1, ⟨"SecretBuyers$Reader", "number", "(II)I"⟩, 2, [(1, 73)], none) := rfl
theorem zlnk_2_153 : zlnk 2 153 = some (2, 153, 1, ⟨"SecretBuyers$Reader", "need", "(Ljava/lang/String;)V"⟩, 1, [(1, 74)], none) := rfl
theorem zlnk_2_159 : zlnk 2 159 = some (2, 159, 2, ⟨"SecretBuyers$Add", "<init>", "(LSecretBuyers$Exp;LSecretBuyers$Exp;)V"⟩, 2, [(0, 207)], none) := rfl
theorem zlnk_2_164 : zlnk 2 164 = some (2, 164, 2, ⟨"SecretBuyers$Bonus", "<init>", "(ILSecretBuyers$Exp;)V"⟩, 2, [(0, 209)], none) := rfl
theorem zlnk_2_167 : zlnk 2 167 = some (2, 167, 1, ⟨"SecretBuyers$Reader", "need", "(C)V"⟩, 1, [(1, 66)], none) := rfl
theorem zlnk_2_170 : zlnk 2 170 = some (2, 170, 1, ⟨"SecretBuyers$Reader", "name", "()Ljava/lang/String;"⟩, 0, [(1, 65)], none) := rfl
theorem zlnk_2_176 : zlnk 2 176 = some (2, 176, 1, ⟨"java/util/ArrayList", "contains", "(Ljava/lang/Object;)Z"⟩, 1, [(18, 221)], none) := rfl
theorem zlnk_2_179 : zlnk 2 179 = some (2, 179, 1, ⟨"java/util/ArrayList", "size", "()I"⟩, 0, [(18, 214)], none) := rfl
theorem zlnk_2_184 : zlnk 2 184 = some (2, 184, 1, ⟨"SecretBuyers$Reader", "test", "()LSecretBuyers$Exp;"⟩, 0, [(1, 69)], none) := rfl
theorem zlnk_2_191 : zlnk 2 191 = some (2, 191, 2, ⟨"SecretBuyers$Row", "<init>", "(LSecretBuyers$Exp;)V"⟩, 1, [(0, 196)], none) := rfl
theorem zlnk_2_192 : zlnk 2 192 = some (2, 192, 1, ⟨"SecretBuyers$Row", "and", "(CLSecretBuyers$Exp;)LSecretBuyers$Row;"⟩, 2, [(14, 197)], none) := rfl
theorem zlnk_2_196 : zlnk 2 196 = some (2, 196, 1, ⟨"SecretBuyers$Reader", "sum", "()LSecretBuyers$Exp;"⟩, 0, [(1, 70)], none) := rfl
theorem zlnk_2_199 : zlnk 2 199 = some (2, 199, 1, ⟨"SecretBuyers$Reader", "term", "()LSecretBuyers$Exp;"⟩, 0, [(1, 71)], none) := rfl
theorem zlnk_2_202 : zlnk 2 202 = some (2, 202, 1, ⟨"SecretBuyers$Reader", "part", "()LSecretBuyers$Exp;"⟩, 0, [(1, 72)], none) := rfl
theorem zlnk_2_209 : zlnk 2 209 = some (2, 209, 1, ⟨"java/util/ArrayList", "indexOf", "(Ljava/lang/Object;)I"⟩, 1, [(18, 222)], none) := rfl
theorem zlnk_2_214 : zlnk 2 214 = some (2, 214, 2, ⟨"SecretBuyers$About", "<init>", "(I)V"⟩, 1, [(0, 188)], none) := rfl
theorem zlnk_2_217 : zlnk 2 217 = some (2, 217, 2, ⟨"SecretBuyers$Named", "<init>", "(I)V"⟩, 1, [(0, 190)], none) := rfl
theorem zlnk_2_220 : zlnk 2 220 = some (2, 220, 2, ⟨"SecretBuyers$Constant", "<init>", "(I)V"⟩, 1, [(0, 192)], none) := rfl
theorem zlnk_2_223 : zlnk 2 223 = some (2, 223, 2, ⟨"SecretBuyers$Not", "<init>", "(LSecretBuyers$Exp;)V"⟩, 1, [(0, 194)], none) := rfl
theorem zlnk_2_36 : zlnk 2 36 = some (2, 36, 2, ⟨"SecretBuyers$Brief", "<init>", "(III)V"⟩, 3, [(0, 182)], none) := rfl
theorem zlnk_2_43 : zlnk 2 43 = some (2, 43, 1, ⟨"SecretBuyers$Reader", "next", "()V"⟩, 0, [(1, 57)], none) := rfl
theorem zlnk_2_52 : zlnk 2 52 = some (2, 52, 1, ⟨"SecretBuyers$Reader", "at", "(I)I"⟩, 1, [(1, 58)], none) := rfl
theorem zlnk_2_56 : zlnk 2 56 = some (2, 56, 0, ⟨"SecretBuyers$Reader", "isLetter", "(I)Z"⟩, 1, [(0, 59)], none) := rfl
theorem zlnk_2_60 : zlnk 2 60 = some (2, 60, 0, ⟨"SecretBuyers$Reader", "isDigit", "(I)Z"⟩, 1, [(0, 60)], none) := rfl
theorem zlnk_2_68 : zlnk 2 68 = some (2, 68, 1, ⟨"java/lang/String", "indexOf", "(I)I"⟩, 1, [(19, 242), (21, 242)], none) := rfl
theorem zlnk_2_75 : zlnk 2 75 = some (2, 75, 2, ⟨"SecretBuyers$Wrong", "<init>", "(II)V"⟩, 2, [(0, 186)], none) := rfl
theorem zlnk_2_78 : zlnk 2 78 = some (2, 78, 1, ⟨"java/lang/String", "length", "()I"⟩, 0, [(19, 245), (21, 245)], none) := rfl
theorem zlnk_2_82 : zlnk 2 82 = some (2, 82, 1, ⟨"java/lang/String", "indexOf", "(II)I"⟩, 2, [(19, 243), (21, 243)], none) := rfl
theorem zlnk_2_85 : zlnk 2 85 = some (2, 85, 1, ⟨"java/lang/String", "charAt", "(I)C"⟩, 1, [(19, 248), (21, 248)], none) := rfl
theorem zlnk_2_89 : zlnk 2 89 = some (2, 89, 1, ⟨"SecretBuyers$Reader", "which", "(Ljava/lang/String;)I"⟩, 1, [(1, 62)], none) := rfl
theorem zlnk_2_93 : zlnk 2 93 = some (2, 93, 1, ⟨"SecretBuyers$Reader", "meets", "(Ljava/lang/String;)Z"⟩, 1, [(1, 75)], none) := rfl
theorem zlnk_2_97 : zlnk 2 97 = some (2, 97, 1, ⟨"SecretBuyers$Reader", "wrong", "(I)LSecretBuyers$Wrong;"⟩, 1, [(1, 63)], none) := rfl
theorem zlnk_20_1 : zlnk 20 1 = some (20, 1, 2, ⟨"SecretBuyers$Line", "<init>", "(LSecretBuyers$Exp;)V"⟩, 1, [(0, 200)], none) := rfl
theorem zlnk_22_1 : zlnk 22 1 = some (22, 1, 2, ⟨"java/util/AbstractCollection", "<init>", "()V"⟩, 0, [(0, 211)], none) := rfl
theorem zlnk_23_1 : zlnk 23 1 = some (23, 1, 2, ⟨"java/util/AbstractList", "<init>", "()V"⟩, 0, [(0, 212)], none) := rfl
theorem zlnk_23_118 : zlnk 23 118 = some (23, 118, 0, ⟨"java/util/Objects", "checkIndex", "(II)I"⟩, 2, [(0, 238)], none) := rfl
theorem zlnk_23_123 : zlnk 23 123 = some (23, 123, 1, ⟨"java/util/ArrayList", "elementData", "(I)Ljava/lang/Object;"⟩, 1, [(18, 220)], none) := rfl
theorem zlnk_23_129 : zlnk 23 129 = some (23, 129, 1, ⟨"java/util/ArrayList", "grow", "()[Ljava/lang/Object;"⟩, 0, [(18, 217)], none) := rfl
theorem zlnk_23_131 : zlnk 23 131 = some (23, 131, 1, ⟨"java/util/ArrayList", "add", "(Ljava/lang/Object;[Ljava/lang/Object;I)V"⟩, 3, [(18, 216)], none) := rfl
theorem zlnk_23_135 : zlnk 23 135 = some (23, 135, 1, ⟨"java/util/ArrayList", "rangeCheckForAdd", "(I)V"⟩, 1, [(18, 226)], none) := rfl
theorem zlnk_23_66 : zlnk 23 66 = some (23, 66, 0, ⟨"java/util/Arrays", "copyOf", "([Ljava/lang/Object;I)[Ljava/lang/Object;"⟩, 2, [(0, 232)], none) := rfl
theorem zlnk_23_69 : zlnk 23 69 = some (23, 69, 1, ⟨"java/util/ArrayList", "grow", "(I)[Ljava/lang/Object;"⟩, 1, [(18, 218)], none) := rfl
theorem zlnk_23_73 : zlnk 23 73 = some (23, 73, 0, ⟨"jdk/internal/util/ArraysSupport", "newLength", "(III)I"⟩, 3, [(0, 227)], none) := rfl
theorem zlnk_23_79 : zlnk 23 79 = some (23, 79, 0, ⟨"java/lang/Math", "max", "(II)I"⟩, 2, [(0, 229)], none) := rfl
theorem zlnk_23_85 : zlnk 23 85 = some (23, 85, 1, ⟨"java/util/ArrayList", "indexOf", "(Ljava/lang/Object;)I"⟩, 1, [(18, 222)], none) := rfl
theorem zlnk_23_89 : zlnk 23 89 = some (23, 89, 1, ⟨"java/util/ArrayList", "indexOfRange", "(Ljava/lang/Object;II)I"⟩, 3, [(18, 223)], none) := rfl
theorem zlnk_23_93 : zlnk 23 93 = some (23, 93, 1, ⟨"java/lang/Object", "equals", "(Ljava/lang/Object;)Z"⟩, 1, [(0, 304), (1, 304), (2, 304), (3, 304), (4, 304), (5, 304), (6, 304), (7, 304), (8, 304), (9, 304), (10, 304), (11, 304), (12, 304), (13, 304), (14, 304), (15, 304), (16, 304), (17, 304), (19, 253), (20, 304), (21, 253)], some "java/lang/Object") := rfl
theorem zlnk_24_194 : zlnk 24 194 = some (24, 194, 0, ⟨"java/lang/Math", "max", "(II)I"⟩, 2, [(0, 229)], none) := rfl
theorem zlnk_24_201 : zlnk 24 201 = some (24, 201, 0, ⟨"jdk/internal/util/ArraysSupport", "hugeLength", "(II)I"⟩, 2, [(0, 228)], none) := rfl
theorem zlnk_26_300 : zlnk 26 300 = some (26, 300, 0, ⟨"java/util/Arrays", "copyOf", "([Ljava/lang/Object;ILjava/lang/Class;)[Ljava/lang/Object;"⟩, 3, [(0, 233)], none) := rfl
theorem zlnk_26_304 : zlnk 26 304 = some (26, 304, 0, ⟨"java/lang/Math", "min", "(II)I"⟩, 2, [(0, 230)], none) := rfl
theorem zlnk_26_339 : zlnk 26 339 = some (26, 339, 0, ⟨"java/util/Arrays", "copyOfRangeByte", "([BII)[B"⟩, 3, [(0, 236)], none) := rfl
theorem zlnk_26_343 : zlnk 26 343 = some (26, 343, 0, ⟨"java/util/Arrays", "checkLength", "(II)V"⟩, 2, [(0, 237)], none) := rfl
theorem zlnk_27_105 : zlnk 27 105 = some (27, 105, 0, ⟨"jdk/internal/util/Preconditions", "checkIndex", "(IILjava/util/function/BiFunction;)I"⟩, 3, [(0, 239)], none) := rfl
theorem zlnk_29_1047 : zlnk 29 1047 = some (29, 1047, 1, ⟨"java/lang/AbstractStringBuilder", "isLatin1", "()Z"⟩, 0, [(20, 292)], some "java/lang/AbstractStringBuilder") := rfl
theorem zlnk_29_1051 : zlnk 29 1051 = some (29, 1051, 0, ⟨"java/lang/StringUTF16", "compress", "([BII)[B"⟩, 3, [(0, 276)], none) := rfl
theorem zlnk_29_1059 : zlnk 29 1059 = some (29, 1059, 0, ⟨"jdk/internal/util/Preconditions", "checkIndex", "(IILjava/util/function/BiFunction;)I"⟩, 3, [(0, 239)], none) := rfl
theorem zlnk_29_1062 : zlnk 29 1062 = some (29, 1062, 0, ⟨"jdk/internal/util/Preconditions", "checkFromToIndex", "(IIILjava/util/function/BiFunction;)I"⟩, 4, [(0, 240)], none) := rfl
theorem zlnk_29_1065 : zlnk 29 1065 = some (29, 1065, 0, ⟨"jdk/internal/util/Preconditions", "checkFromIndexSize", "(IIILjava/util/function/BiFunction;)I"⟩, 4, [(0, 241)], none) := rfl
theorem zlnk_29_335 : zlnk 29 335 = some (29, 335, 1, ⟨"java/lang/String", "coder", "()B"⟩, 0, [(19, 246), (21, 246)], none) := rfl
theorem zlnk_29_47 : zlnk 29 47 = some (29, 47, 0, ⟨"java/lang/StringUTF16", "coderFromArrayLen", "([BI)B"⟩, 2, [(0, 278)], none) := rfl
theorem zlnk_29_489 : zlnk 29 489 = some (29, 489, 2, ⟨"java/lang/String", "<init>", "(Ljava/lang/AbstractStringBuilder;Ljava/lang/Void;)V"⟩, 2, [(0, 252)], none) := rfl
theorem zlnk_29_492 : zlnk 29 492 = some (29, 492, 1, ⟨"java/lang/String", "isLatin1", "()Z"⟩, 0, [(19, 244), (21, 244)], none) := rfl
theorem zlnk_29_495 : zlnk 29 495 = some (29, 495, 0, ⟨"java/lang/StringLatin1", "charAt", "([BI)C"⟩, 2, [(0, 257)], none) := rfl
theorem zlnk_29_498 : zlnk 29 498 = some (29, 498, 0, ⟨"java/lang/StringUTF16", "charAt", "([BI)C"⟩, 2, [(0, 268)], none) := rfl
theorem zlnk_29_505 : zlnk 29 505 = some (29, 505, 1, ⟨"java/lang/String", "length", "()I"⟩, 0, [(19, 245), (21, 245)], none) := rfl
theorem zlnk_29_54 : zlnk 29 54 = some (29, 54, 0, ⟨"java/util/Arrays", "copyOfRange", "([BII)[B"⟩, 3, [(0, 235)], none) := rfl
theorem zlnk_29_541 : zlnk 29 541 = some (29, 541, 0, ⟨"java/lang/StringLatin1", "equals", "([B[B)Z"⟩, 2, [(0, 260)], none) := rfl
theorem zlnk_29_549 : zlnk 29 549 = some (29, 549, 1, ⟨"java/lang/AbstractStringBuilder", "length", "()I"⟩, 0, [(20, 300)], some "java/lang/AbstractStringBuilder") := rfl
theorem zlnk_29_552 : zlnk 29 552 = some (29, 552, 1, ⟨"java/lang/AbstractStringBuilder", "getValue", "()[B"⟩, 0, [(20, 294)], some "java/lang/AbstractStringBuilder") := rfl
theorem zlnk_29_633 : zlnk 29 633 = some (29, 633, 1, ⟨"java/lang/String", "indexOf", "(II)I"⟩, 2, [(19, 243), (21, 243)], none) := rfl
theorem zlnk_29_637 : zlnk 29 637 = some (29, 637, 0, ⟨"java/lang/StringLatin1", "indexOf", "([BIII)I"⟩, 4, [(0, 254)], none) := rfl
theorem zlnk_29_640 : zlnk 29 640 = some (29, 640, 0, ⟨"java/lang/StringUTF16", "indexOf", "([BIII)I"⟩, 4, [(0, 261)], none) := rfl
theorem zlnk_3_18 : zlnk 3 18 = some (3, 18, 0, ⟨"java/lang/Integer", "bitCount", "(I)I"⟩, 1, [(0, 302)], none) := rfl
theorem zlnk_30_240 : zlnk 30 240 = some (30, 240, 0, ⟨"java/lang/StringUTF16", "inflate", "([BI[BII)V"⟩, 5, [(0, 272)], none) := rfl
theorem zlnk_30_38 : zlnk 30 38 = some (30, 38, 0, ⟨"java/lang/Math", "min", "(II)I"⟩, 2, [(0, 230)], none) := rfl
theorem zlnk_30_88 : zlnk 30 88 = some (30, 88, 0, ⟨"java/lang/StringLatin1", "canEncode", "(I)Z"⟩, 1, [(0, 255)], none) := rfl
theorem zlnk_30_9 : zlnk 30 9 = some (30, 9, 0, ⟨"java/lang/String", "checkIndex", "(II)V"⟩, 2, [(0, 249)], none) := rfl
theorem zlnk_30_92 : zlnk 30 92 = some (30, 92, 0, ⟨"java/lang/Math", "max", "(II)I"⟩, 2, [(0, 229)], none) := rfl
theorem zlnk_30_95 : zlnk 30 95 = some (30, 95, 0, ⟨"java/lang/StringLatin1", "indexOfChar", "([BIII)I"⟩, 4, [(0, 256)], none) := rfl
theorem zlnk_34_1 : zlnk 34 1 = some (34, 1, 2, ⟨"java/lang/Throwable", "<init>", "()V"⟩, 0, [(0, 282)], none) := rfl
theorem zlnk_34_16 : zlnk 34 16 = some (34, 16, 2, ⟨"java/lang/Throwable", "<init>", "(Ljava/lang/String;Ljava/lang/Throwable;ZZ)V"⟩, 4, [(0, 283)], none) := rfl
theorem zlnk_35_1 : zlnk 35 1 = some (35, 1, 2, ⟨"java/lang/Exception", "<init>", "()V"⟩, 0, [(0, 285)], none) := rfl
theorem zlnk_35_16 : zlnk 35 16 = some (35, 16, 2, ⟨"java/lang/Exception", "<init>", "(Ljava/lang/String;Ljava/lang/Throwable;ZZ)V"⟩, 4, [(0, 284)], none) := rfl
theorem zlnk_36_100 : zlnk 36 100 = some (36, 100, 1, ⟨"java/lang/AbstractStringBuilder", "ensureCapacityInternal", "(I)V"⟩, 1, [(20, 290)], none) := rfl
theorem zlnk_36_104 : zlnk 36 104 = some (36, 104, 1, ⟨"java/lang/AbstractStringBuilder", "newCapacity", "(I)I"⟩, 1, [(20, 291)], none) := rfl
theorem zlnk_36_108 : zlnk 36 108 = some (36, 108, 0, ⟨"java/util/Arrays", "copyOf", "([BI)[B"⟩, 2, [(0, 234)], none) := rfl
theorem zlnk_36_114 : zlnk 36 114 = some (36, 114, 0, ⟨"jdk/internal/util/ArraysSupport", "newLength", "(III)I"⟩, 3, [(0, 227)], none) := rfl
theorem zlnk_36_125 : zlnk 36 125 = some (36, 125, 0, ⟨"java/lang/StringLatin1", "inflate", "([BI[BII)V"⟩, 5, [(0, 259)], none) := rfl
theorem zlnk_36_138 : zlnk 36 138 = some (36, 138, 0, ⟨"java/lang/Math", "min", "(II)I"⟩, 2, [(0, 230)], none) := rfl
theorem zlnk_36_144 : zlnk 36 144 = some (36, 144, 0, ⟨"java/lang/String", "checkIndex", "(II)V"⟩, 2, [(0, 249)], none) := rfl
theorem zlnk_36_148 : zlnk 36 148 = some (36, 148, 0, ⟨"java/lang/StringUTF16", "getChar", "([BI)C"⟩, 2, [(0, 266)], none) := rfl
theorem zlnk_36_191 : zlnk 36 191 = some (36, 191, 0, ⟨"java/lang/StringLatin1", "canEncode", "(C)Z"⟩, 1, [(0, 258)], none) := rfl
theorem zlnk_36_195 : zlnk 36 195 = some (36, 195, 1, ⟨"java/lang/AbstractStringBuilder", "inflate", "()V"⟩, 0, [(20, 293)], none) := rfl
theorem zlnk_36_197 : zlnk 36 197 = some (36, 197, 0, ⟨"java/lang/StringUTF16", "putCharSB", "([BII)V"⟩, 3, [(0, 275)], none) := rfl
theorem zlnk_36_26 : zlnk 36 26 = some (36, 26, 0, ⟨"java/lang/StringUTF16", "newBytesFor", "(I)[B"⟩, 1, [(0, 270)], none) := rfl
theorem zlnk_36_83 : zlnk 36 83 = some (36, 83, 1, ⟨"java/lang/AbstractStringBuilder", "isLatin1", "()Z"⟩, 0, [(20, 292)], some "java/lang/AbstractStringBuilder") := rfl
theorem zlnk_37_1 : zlnk 37 1 = some (37, 1, 2, ⟨"java/lang/AbstractStringBuilder", "<init>", "(I)V"⟩, 1, [(0, 288)], none) := rfl
theorem zlnk_37_137 : zlnk 37 137 = some (37, 137, 2, ⟨"java/lang/String", "<init>", "(Ljava/lang/StringBuilder;)V"⟩, 1, [(0, 251)], none) := rfl
theorem zlnk_37_329 : zlnk 37 329 = some (37, 329, 4, ⟨"java/lang/AbstractStringBuilder", "charAt", "(I)C"⟩, 1, [(0, 296)], none) := rfl
theorem zlnk_37_343 : zlnk 37 343 = some (37, 343, 4, ⟨"java/lang/AbstractStringBuilder", "length", "()I"⟩, 0, [(0, 295)], none) := rfl
theorem zlnk_37_50 : zlnk 37 50 = some (37, 50, 4, ⟨"java/lang/AbstractStringBuilder", "append", "(C)Ljava/lang/AbstractStringBuilder;"⟩, 1, [(0, 289)], none) := rfl
theorem zlnk_39_1 : zlnk 39 1 = some (39, 1, 2, ⟨"java/lang/RuntimeException", "<init>", "()V"⟩, 0, [(0, 287)], none) := rfl
theorem zlnk_4_234 : zlnk 4 234 = some (4, 234, 0, ⟨"SecretBuyersModel", "isLetter", "(I)Z"⟩, 1, [(0, 84)], none) := rfl
theorem zlnk_4_243 : zlnk 4 243 = some (4, 243, 0, ⟨"SecretBuyersModel", "rank", "(I)I"⟩, 1, [(0, 85)], none) := rfl
theorem zlnk_4_247 : zlnk 4 247 = some (4, 247, 0, ⟨"SecretBuyersModel", "isDigit", "(I)Z"⟩, 1, [(0, 86)], none) := rfl
theorem zlnk_4_254 : zlnk 4 254 = some (4, 254, 0, ⟨"SecretBuyersModel", "isSignOf", "(I)Z"⟩, 1, [(0, 87)], none) := rfl
theorem zlnk_4_263 : zlnk 4 263 = some (4, 263, 1, ⟨"SecretBuyersModel", "isSign", "(I)Z"⟩, 1, [(3, 95)], none) := rfl
theorem zlnk_4_266 : zlnk 4 266 = some (4, 266, 1, ⟨"SecretBuyersModel", "wrong", "(I)V"⟩, 1, [(3, 90)], none) := rfl
theorem zlnk_4_270 : zlnk 4 270 = some (4, 270, 1, ⟨"SecretBuyersModel", "isWord", "(I)Z"⟩, 1, [(3, 89)], none) := rfl
theorem zlnk_4_273 : zlnk 4 273 = some (4, 273, 1, ⟨"SecretBuyersModel", "hasWord", "(I)Z"⟩, 1, [(3, 102)], none) := rfl
theorem zlnk_4_282 : zlnk 4 282 = some (4, 282, 1, ⟨"SecretBuyersModel", "cutAll", "()V"⟩, 0, [(3, 83)], none) := rfl
theorem zlnk_4_288 : zlnk 4 288 = some (4, 288, 1, ⟨"SecretBuyersModel", "readLine", "()V"⟩, 0, [(3, 88)], none) := rfl
theorem zlnk_4_291 : zlnk 4 291 = some (4, 291, 1, ⟨"SecretBuyersModel", "keeps", "(II)V"⟩, 2, [(3, 107)], none) := rfl
theorem zlnk_4_298 : zlnk 4 298 = some (4, 298, 1, ⟨"SecretBuyersModel", "readLet", "(I)V"⟩, 1, [(3, 91)], none) := rfl
theorem zlnk_4_301 : zlnk 4 301 = some (4, 301, 1, ⟨"SecretBuyersModel", "takeNumber", "(I)I"⟩, 1, [(3, 104)], none) := rfl
theorem zlnk_4_304 : zlnk 4 304 = some (4, 304, 1, ⟨"SecretBuyersModel", "readTests", "()I"⟩, 0, [(3, 96)], none) := rfl
theorem zlnk_4_308 : zlnk 4 308 = some (4, 308, 1, ⟨"SecretBuyersModel", "takeWord", "(I)V"⟩, 1, [(3, 106)], none) := rfl
theorem zlnk_4_311 : zlnk 4 311 = some (4, 311, 1, ⟨"SecretBuyersModel", "takeSign", "(I)V"⟩, 1, [(3, 94)], none) := rfl
theorem zlnk_4_314 : zlnk 4 314 = some (4, 314, 1, ⟨"SecretBuyersModel", "isName", "()Z"⟩, 0, [(3, 92)], none) := rfl
theorem zlnk_4_318 : zlnk 4 318 = some (4, 318, 1, ⟨"SecretBuyersModel", "findName", "()I"⟩, 0, [(3, 93)], none) := rfl
theorem zlnk_4_321 : zlnk 4 321 = some (4, 321, 1, ⟨"SecretBuyersModel", "all", "(I)V"⟩, 1, [(3, 97)], none) := rfl
theorem zlnk_4_324 : zlnk 4 324 = some (4, 324, 1, ⟨"SecretBuyersModel", "emit", "(II)V"⟩, 2, [(3, 103)], none) := rfl
theorem zlnk_4_327 : zlnk 4 327 = some (4, 327, 1, ⟨"SecretBuyersModel", "test", "(I)V"⟩, 1, [(3, 98)], none) := rfl
theorem zlnk_4_330 : zlnk 4 330 = some (4, 330, 1, ⟨"SecretBuyersModel", "sums", "(I)V"⟩, 1, [(3, 99)], none) := rfl
theorem zlnk_4_333 : zlnk 4 333 = some (4, 333, 1, ⟨"SecretBuyersModel", "hasSign", "(I)Z"⟩, 1, [(3, 105)], none) := rfl
theorem zlnk_4_336 : zlnk 4 336 = some (4, 336, 1, ⟨"SecretBuyersModel", "products", "(I)V"⟩, 1, [(3, 100)], none) := rfl
theorem zlnk_4_339 : zlnk 4 339 = some (4, 339, 1, ⟨"SecretBuyersModel", "takePart", "(I)V"⟩, 1, [(3, 101)], none) := rfl
theorem zlnk_4_345 : zlnk 4 345 = some (4, 345, 0, ⟨"SecretBuyersModel", "both", "(III)I"⟩, 3, [(0, 133)], none) := rfl
theorem zlnk_4_355 : zlnk 4 355 = some (4, 355, 1, ⟨"SecretBuyersModel", "worth", "(I)I"⟩, 1, [(3, 132)], none) := rfl
theorem zlnk_4_358 : zlnk 4 358 = some (4, 358, 0, ⟨"SecretBuyersModel", "within", "(III)Z"⟩, 3, [(0, 109)], none) := rfl
theorem zlnk_4_362 : zlnk 4 362 = some (4, 362, 0, ⟨"SecretBuyersModel", "isPlace", "(II)Z"⟩, 2, [(0, 112)], none) := rfl
theorem zlnk_4_375 : zlnk 4 375 = some (4, 375, 1, ⟨"SecretBuyersModel", "isShop", "(I)Z"⟩, 1, [(3, 117)], none) := rfl
theorem zlnk_4_378 : zlnk 4 378 = some (4, 378, 1, ⟨"SecretBuyersModel", "isBuyer", "(I)Z"⟩, 1, [(3, 118)], none) := rfl
theorem zlnk_4_381 : zlnk 4 381 = some (4, 381, 1, ⟨"SecretBuyersModel", "visitsOf", "(II)I"⟩, 2, [(3, 119)], none) := rfl
theorem zlnk_4_388 : zlnk 4 388 = some (4, 388, 1, ⟨"SecretBuyersModel", "viewDay", "()I"⟩, 0, [(3, 123)], none) := rfl
theorem zlnk_4_391 : zlnk 4 391 = some (4, 391, 0, ⟨"SecretBuyersModel", "bits", "(I)I"⟩, 1, [(0, 129)], none) := rfl
theorem zlnk_4_394 : zlnk 4 394 = some (4, 394, 1, ⟨"SecretBuyersModel", "isSeen", "(I)Z"⟩, 1, [(3, 122)], none) := rfl
theorem zlnk_4_397 : zlnk 4 397 = some (4, 397, 1, ⟨"SecretBuyersModel", "isAhead", "(II)Z"⟩, 2, [(3, 125)], none) := rfl
theorem zlnk_4_403 : zlnk 4 403 = some (4, 403, 1, ⟨"SecretBuyersModel", "latest", "(II)I"⟩, 2, [(3, 126)], none) := rfl
theorem zlnk_4_406 : zlnk 4 406 = some (4, 406, 1, ⟨"SecretBuyersModel", "formNow", "(I)I"⟩, 1, [(3, 127)], none) := rfl
theorem zlnk_4_409 : zlnk 4 409 = some (4, 409, 1, ⟨"SecretBuyersModel", "tells", "(III)V"⟩, 3, [(3, 128)], none) := rfl
theorem zlnk_4_413 : zlnk 4 413 = some (4, 413, 1, ⟨"SecretBuyersModel", "briefOf", "(I)I"⟩, 1, [(3, 130)], none) := rfl
theorem zlnk_4_416 : zlnk 4 416 = some (4, 416, 1, ⟨"SecretBuyersModel", "judges", "(I)V"⟩, 1, [(3, 131)], none) := rfl
theorem zlnk_4_419 : zlnk 4 419 = some (4, 419, 1, ⟨"SecretBuyersModel", "isAlone", "(I)Z"⟩, 1, [(3, 134)], none) := rfl
theorem zlnk_4_425 : zlnk 4 425 = some (4, 425, 1, ⟨"SecretBuyersModel", "findFewest", "(II)V"⟩, 2, [(3, 135)], none) := rfl
theorem zlnk_4_431 : zlnk 4 431 = some (4, 431, 0, ⟨"SecretBuyersModel", "wayBetween", "(IIII)I"⟩, 4, [(0, 137)], none) := rfl
theorem zlnk_4_438 : zlnk 4 438 = some (4, 438, 1, ⟨"SecretBuyersModel", "areBoth", "(II)Z"⟩, 2, [(3, 136)], none) := rfl
theorem zlnk_4_444 : zlnk 4 444 = some (4, 444, 1, ⟨"SecretBuyersModel", "doesDo", "(I)Z"⟩, 1, [(3, 138)], none) := rfl
theorem zlnk_4_447 : zlnk 4 447 = some (4, 447, 0, ⟨"SecretBuyersModel", "isFirst", "(II)Z"⟩, 2, [(0, 139)], none) := rfl
theorem zlnk_4_450 : zlnk 4 450 = some (4, 450, 1, ⟨"SecretBuyersModel", "findAll", "()V"⟩, 0, [(3, 124)], none) := rfl
theorem zlnk_4_453 : zlnk 4 453 = some (4, 453, 1, ⟨"SecretBuyersModel", "counts", "(I)Z"⟩, 1, [(3, 140)], none) := rfl
theorem zlnk_4_456 : zlnk 4 456 = some (4, 456, 0, ⟨"SecretBuyersModel", "isDay", "(I)Z"⟩, 1, [(0, 142)], none) := rfl
theorem zlnk_4_459 : zlnk 4 459 = some (4, 459, 1, ⟨"SecretBuyersModel", "isMeeting", "(II)Z"⟩, 2, [(3, 146)], none) := rfl
theorem zlnk_4_462 : zlnk 4 462 = some (4, 462, 1, ⟨"SecretBuyersModel", "findLeans", "()V"⟩, 0, [(3, 145)], none) := rfl
theorem zlnk_4_465 : zlnk 4 465 = some (4, 465, 1, ⟨"SecretBuyersModel", "fairOf", "(I)I"⟩, 1, [(3, 147)], none) := rfl
theorem zlnk_4_468 : zlnk 4 468 = some (4, 468, 0, ⟨"SecretBuyersModel", "areDays", "(II)Z"⟩, 2, [(0, 152)], none) := rfl
theorem zlnk_4_471 : zlnk 4 471 = some (4, 471, 1, ⟨"SecretBuyersModel", "findMeans", "(II)V"⟩, 2, [(3, 153)], none) := rfl
theorem zlnk_4_474 : zlnk 4 474 = some (4, 474, 1, ⟨"SecretBuyersModel", "hasMean", "(III)Z"⟩, 3, [(3, 151)], none) := rfl
theorem zlnk_4_477 : zlnk 4 477 = some (4, 477, 1, ⟨"SecretBuyersModel", "doubtOf", "(I)I"⟩, 1, [(3, 155)], none) := rfl
theorem zlnk_4_480 : zlnk 4 480 = some (4, 480, 1, ⟨"SecretBuyersModel", "areTwo", "(IIII)Z"⟩, 4, [(3, 157)], none) := rfl
theorem zlnk_4_484 : zlnk 4 484 = some (4, 484, 1, ⟨"SecretBuyersModel", "isLess", "(II)Z"⟩, 2, [(3, 158)], none) := rfl
theorem zlnk_4_487 : zlnk 4 487 = some (4, 487, 1, ⟨"SecretBuyersModel", "mayGo", "(III)Z"⟩, 3, [(3, 162)], none) := rfl
theorem zlnk_4_491 : zlnk 4 491 = some (4, 491, 1, ⟨"SecretBuyersModel", "wayOf", "(II)I"⟩, 2, [(3, 165)], none) := rfl
theorem zlnk_4_494 : zlnk 4 494 = some (4, 494, 1, ⟨"SecretBuyersModel", "sumBy", "(III)I"⟩, 3, [(3, 166)], none) := rfl
theorem zlnk_4_497 : zlnk 4 497 = some (4, 497, 1, ⟨"SecretBuyersModel", "gives", "(II)I"⟩, 2, [(3, 164)], none) := rfl
theorem zlnk_4_7 : zlnk 4 7 = some (4, 7, 1, ⟨"SecretBuyersModel", "lay", "(J)V"⟩, 1, [(3, 80)], none) := rfl
theorem zlnk_6_16 : zlnk 6 16 = some (6, 16, 0, ⟨"java/lang/Math", "abs", "(I)I"⟩, 1, [(0, 231)], none) := rfl
theorem zlnk_7_45 : zlnk 7 45 = some (7, 45, 1, ⟨"SecretBuyers$Visit", "behind", "()I"⟩, 0, [(6, 176)], none) := rfl
theorem zlnk_7_55 : zlnk 7 55 = some (7, 55, 1, ⟨"SecretBuyers$Visit", "isAheadOf", "(LSecretBuyers$Visit;)Z"⟩, 1, [(6, 177)], none) := rfl
theorem zlnk_7_63 : zlnk 7 63 = some (7, 63, 1, ⟨"SecretBuyers$Place", "way", "(LSecretBuyers$Place;)I"⟩, 1, [(5, 173)], none) := rfl
theorem zlnk_7_76 : zlnk 7 76 = some (7, 76, 1, ⟨"SecretBuyers$Visit", "counts", "()Z"⟩, 0, [(6, 180)], none) := rfl
theorem zlnk_9_11 : zlnk 9 11 = some (9, 11, 2, ⟨"java/util/ArrayList", "<init>", "(I)V"⟩, 1, [(0, 213)], none) := rfl
theorem zlnk_9_36 : zlnk 9 36 = some (9, 36, 1, ⟨"SecretBuyers$Ask", "be", "(LSecretBuyers$Visit;I)V"⟩, 2, [(2, 77)], none) := rfl
theorem zlnk_9_42 : zlnk 9 42 = some (9, 42, 1, ⟨"java/util/ArrayList", "size", "()I"⟩, 0, [(18, 214)], none) := rfl
theorem zlnk_9_50 : zlnk 9 50 = some (9, 50, 1, ⟨"java/util/ArrayList", "get", "(I)Ljava/lang/Object;"⟩, 1, [(18, 219)], none) := rfl
theorem zlnk_9_56 : zlnk 9 56 = some (9, 56, 1, ⟨"SecretBuyers$Exp", "value", "(LSecretBuyers$Ask;)I"⟩, 1, [(10, 189), (11, 191), (12, 193), (13, 195), (14, 198)], some "SecretBuyers$Exp") := rfl
theorem zlnk_9_62 : zlnk 9 62 = some (9, 62, 1, ⟨"SecretBuyers$Line", "fails", "(LSecretBuyers$Ask;)Z"⟩, 1, [(15, 206), (16, 202), (17, 202)], some "SecretBuyers$Line") := rfl
theorem zlnk_9_66 : zlnk 9 66 = some (9, 66, 1, ⟨"SecretBuyers$Brief", "asks", "(LSecretBuyers$Ask;LSecretBuyers$Visit;I)Z"⟩, 3, [(8, 184)], none) := rfl
theorem zlnk_9_70 : zlnk 9 70 = some (9, 70, 1, ⟨"SecretBuyers$Line", "holds", "(LSecretBuyers$Ask;)Z"⟩, 1, [(15, 201), (16, 201), (17, 201)], some "SecretBuyers$Line") := rfl
theorem zlnk_9_73 : zlnk 9 73 = some (9, 73, 1, ⟨"SecretBuyers$Line", "adds", "(LSecretBuyers$Ask;)I"⟩, 1, [(15, 203), (16, 208), (17, 203)], some "SecretBuyers$Line") := rfl
theorem zlnk_9_76 : zlnk 9 76 = some (9, 76, 0, ⟨"java/lang/Math", "min", "(II)I"⟩, 2, [(0, 230)], none) := rfl
theorem zlnk_9_82 : zlnk 9 82 = some (9, 82, 0, ⟨"java/lang/Math", "max", "(II)I"⟩, 2, [(0, 229)], none) := rfl
theorem zlnk_9_85 : zlnk 9 85 = some (9, 85, 1, ⟨"SecretBuyers$Line", "bonus", "()I"⟩, 0, [(15, 204), (16, 204), (17, 210)], some "SecretBuyers$Line") := rfl
theorem zfldL_0_67 : zfldL 0 67 = some (0, 67, 4294967295) := rfl
theorem zfldL_1_371 : zfldL 1 371 = some (1, 371, 1103515245) := rfl
theorem zfldL_1_373 : zfldL 1 373 = some (1, 373, 12345) := rfl
theorem zfldL_1_375 : zfldL 1 375 = some (1, 375, 2147483648) := rfl
theorem zfldL_1_377 : zfldL 1 377 = some (1, 377, 65536) := rfl
theorem zfldL_4_241 : zfldL 4 241 = some (4, 241, 37) := rfl
theorem zfldL_4_250 : zfldL 4 250 = some (4, 250, 10) := rfl
theorem zfldL_4_252 : zfldL 4 252 = some (4, 252, 48) := rfl
theorem zfldL_4_34 : zfldL 4 34 = some (4, 34, 16633) := rfl
theorem zfldL_4_36 : zfldL 4 36 = some (4, 36, 1521) := rfl
theorem zfldL_4_38 : zfldL 4 38 = some (4, 38, 687961) := rfl
theorem zfldL_4_40 : zfldL 4 40 = some (4, 40, 4528079) := rfl
theorem zfldL_4_42 : zfldL 4 42 = some (4, 42, 1176170) := rfl
theorem zfldL_4_44 : zfldL 4 44 = some (4, 44, 1891) := rfl
theorem zfldL_4_46 : zfldL 4 46 = some (4, 46, 573) := rfl
theorem zfldL_4_48 : zfldL 4 48 = some (4, 48, 19741) := rfl
theorem zfldL_4_50 : zfldL 4 50 = some (4, 50, 483455) := rfl
theorem zfldL_4_500 : zfldL 4 500 = some (4, 500, 1103515245) := rfl
theorem zfldL_4_502 : zfldL 4 502 = some (4, 502, 12345) := rfl
theorem zfldL_4_504 : zfldL 4 504 = some (4, 504, 2147483648) := rfl
theorem zfldL_4_506 : zfldL 4 506 = some (4, 506, 65536) := rfl
theorem zfldL_4_52 : zfldL 4 52 = some (4, 52, 1825) := rfl
theorem zfldL_4_54 : zfldL 4 54 = some (4, 54, 34005868481) := rfl
theorem zfldL_4_56 : zfldL 4 56 = some (4, 56, 426554) := rfl
theorem zfldL_4_58 : zfldL 4 58 = some (4, 58, 46535683828) := rfl
theorem zfldL_4_60 : zfldL 4 60 = some (4, 60, 1172060) := rfl
theorem zfldL_4_62 : zfldL 4 62 = some (4, 62, 148383843) := rfl
theorem zfnew_0_27 : zfnew 0 27 = some (0, 27, 3, 81) := rfl
theorem zfnew_0_8 : zfnew 0 8 = some (0, 8, 0, 29) := rfl
theorem zfnew_1_125 : zfnew 1 125 = some (1, 125, 5, 2) := rfl
theorem zfnew_1_170 : zfnew 1 170 = some (1, 170, 7, 3) := rfl
theorem zfnew_1_28 : zfnew 1 28 = some (1, 28, 18, 3) := rfl
theorem zfnew_1_53 : zfnew 1 53 = some (1, 53, 1, 11) := rfl
theorem zfnew_1_60 : zfnew 1 60 = some (1, 60, 2, 2) := rfl
theorem zfnew_1_81 : zfnew 1 81 = some (1, 81, 6, 16) := rfl
theorem zfnew_1_98 : zfnew 1 98 = some (1, 98, 4, 6) := rfl
theorem zfnew_16_18 : zfnew 16 18 = some (16, 18, 20, 4) := rfl
theorem zfnew_16_7 : zfnew 16 7 = some (16, 7, 18, 3) := rfl
theorem zfnew_2_111 : zfnew 2 111 = some (2, 111, 20, 4) := rfl
theorem zfnew_2_133 : zfnew 2 133 = some (2, 133, 15, 1) := rfl
theorem zfnew_2_157 : zfnew 2 157 = some (2, 157, 16, 2) := rfl
theorem zfnew_2_162 : zfnew 2 162 = some (2, 162, 17, 2) := rfl
theorem zfnew_2_189 : zfnew 2 189 = some (2, 189, 14, 2) := rfl
theorem zfnew_2_212 : zfnew 2 212 = some (2, 212, 10, 1) := rfl
theorem zfnew_2_215 : zfnew 2 215 = some (2, 215, 11, 1) := rfl
theorem zfnew_2_218 : zfnew 2 218 = some (2, 218, 12, 1) := rfl
theorem zfnew_2_221 : zfnew 2 221 = some (2, 221, 13, 1) := rfl
theorem zfnew_2_34 : zfnew 2 34 = some (2, 34, 8, 6) := rfl
theorem zfnew_2_73 : zfnew 2 73 = some (2, 73, 9, 7) := rfl
theorem zfnew_37_18 : zfnew 37 18 = some (37, 18, 19, 4) := rfl
theorem zfnew_9_9 : zfnew 9 9 = some (9, 9, 18, 3) := rfl
theorem zoi_0_26 : zois.contains (0, 26) = false := rfl
theorem zoi_0_29 : zois.contains (0, 29) = false := rfl
theorem zoi_1_1 : zois.contains (1, 1) = true := rfl
theorem zoi_1_127 : zois.contains (1, 127) = false := rfl
theorem zoi_1_130 : zois.contains (1, 130) = false := rfl
theorem zoi_1_154 : zois.contains (1, 154) = false := rfl
theorem zoi_1_172 : zois.contains (1, 172) = false := rfl
theorem zoi_1_30 : zois.contains (1, 30) = false := rfl
theorem zoi_1_55 : zois.contains (1, 55) = false := rfl
theorem zoi_1_62 : zois.contains (1, 62) = false := rfl
theorem zoi_10_1 : zois.contains (10, 1) = false := rfl
theorem zoi_11_1 : zois.contains (11, 1) = true := rfl
theorem zoi_12_1 : zois.contains (12, 1) = false := rfl
theorem zoi_13_1 : zois.contains (13, 1) = false := rfl
theorem zoi_14_1 : zois.contains (14, 1) = false := rfl
theorem zoi_15_1 : zois.contains (15, 1) = false := rfl
theorem zoi_16_1 : zois.contains (16, 1) = false := rfl
theorem zoi_16_20 : zois.contains (16, 20) = false := rfl
theorem zoi_16_9 : zois.contains (16, 9) = false := rfl
theorem zoi_17_3 : zois.contains (17, 3) = true := rfl
theorem zoi_18_1 : zois.contains (18, 1) = false := rfl
theorem zoi_19_1 : zois.contains (19, 1) = false := rfl
theorem zoi_2_113 : zois.contains (2, 113) = false := rfl
theorem zoi_2_139 : zois.contains (2, 139) = false := rfl
theorem zoi_2_159 : zois.contains (2, 159) = false := rfl
theorem zoi_2_164 : zois.contains (2, 164) = false := rfl
theorem zoi_2_191 : zois.contains (2, 191) = false := rfl
theorem zoi_2_214 : zois.contains (2, 214) = false := rfl
theorem zoi_2_217 : zois.contains (2, 217) = false := rfl
theorem zoi_2_220 : zois.contains (2, 220) = false := rfl
theorem zoi_2_223 : zois.contains (2, 223) = false := rfl
theorem zoi_2_3 : zois.contains (2, 3) = true := rfl
theorem zoi_2_36 : zois.contains (2, 36) = false := rfl
theorem zoi_2_75 : zois.contains (2, 75) = false := rfl
theorem zoi_20_1 : zois.contains (20, 1) = false := rfl
theorem zoi_21_1 : zois.contains (21, 1) = true := rfl
theorem zoi_22_1 : zois.contains (22, 1) = false := rfl
theorem zoi_23_1 : zois.contains (23, 1) = false := rfl
theorem zoi_29_1 : zois.contains (29, 1) = true := rfl
theorem zoi_29_489 : zois.contains (29, 489) = false := rfl
theorem zoi_3_3 : zois.contains (3, 3) = true := rfl
theorem zoi_33_1 : zois.contains (33, 1) = true := rfl
theorem zoi_34_1 : zois.contains (34, 1) = false := rfl
theorem zoi_34_16 : zois.contains (34, 16) = false := rfl
theorem zoi_35_1 : zois.contains (35, 1) = false := rfl
theorem zoi_35_16 : zois.contains (35, 16) = false := rfl
theorem zoi_36_3 : zois.contains (36, 3) = true := rfl
theorem zoi_37_1 : zois.contains (37, 1) = false := rfl
theorem zoi_37_137 : zois.contains (37, 137) = false := rfl
theorem zoi_37_329 : zois.contains (37, 329) = false := rfl
theorem zoi_37_343 : zois.contains (37, 343) = false := rfl
theorem zoi_37_50 : zois.contains (37, 50) = false := rfl
theorem zoi_39_1 : zois.contains (39, 1) = false := rfl
theorem zoi_4_18 : zois.contains (4, 18) = true := rfl
theorem zoi_5_1 : zois.contains (5, 1) = true := rfl
theorem zoi_6_1 : zois.contains (6, 1) = true := rfl
theorem zoi_7_3 : zois.contains (7, 3) = true := rfl
theorem zoi_8_1 : zois.contains (8, 1) = true := rfl
theorem zoi_9_11 : zois.contains (9, 11) = false := rfl
theorem zoi_9_3 : zois.contains (9, 3) = true := rfl
theorem zfldS_2_105 : zfldS 2 105 = some (2, 105, "let add when must bonus item and or not ", 12) := rfl
theorem zfldS_2_109 : zfldS 2 109 = some (2, 109, "all minutes hour receipt week before ", 13) := rfl
theorem zfldS_2_124 : zfldS 2 124 = some (2, 124, "let add must bonus ", 11) := rfl
theorem zfldS_2_151 : zfldS 2 151 = some (2, 151, "when ", 17) := rfl
theorem zfldS_2_187 : zfldS 2 187 = some (2, 187, "and or ", 16) := rfl
theorem zfldS_2_205 : zfldS 2 205 = some (2, 205, "not ", 14) := rfl
theorem zfldS_2_207 : zfldS 2 207 = some (2, 207, "item ", 15) := rfl
theorem zfldS_2_66 : zfldS 2 66 = some (2, 66, "()<=+-*;", 10) := rfl
theorem zfsts_23_15 : zfsts 23 15 = some (23, 15, 1) := rfl
theorem zfsts_23_39 : zfsts 23 39 = some (23, 39, 2) := rfl
theorem zfsts_29_1053 : zfsts 29 1053 = some (29, 1053, 3) := rfl
theorem zfsts_29_38 : zfsts 29 38 = some (29, 38, 100) := rfl
theorem zfsts_33_13 : zfsts 33 13 = some (33, 13, 4) := rfl
theorem zfsts_33_20 : zfsts 33 20 = some (33, 20, 5) := rfl
theorem zfsts_36_18 : zfsts 36 18 = some (36, 18, 100) := rfl
theorem zpo_X1_init_9 : zputOk (1, 9, 1, 0, [0], false) mX1_init = true := rfl
theorem zpo_X1_init_13 : zputOk (1, 13, 3, 0, [0], false) mX1_init = true := rfl
theorem zpo_X1_init_16 : zputOk (1, 16, 4, 0, [0], false) mX1_init = true := rfl
theorem zpo_X1_init_19 : zputOk (1, 19, 5, 0, [0], false) mX1_init = true := rfl
theorem zpo_X1_init_22 : zputOk (1, 22, 6, 0, [0], false) mX1_init = true := rfl
theorem zpo_X1_init_25 : zputOk (1, 25, 7, 0, [0], false) mX1_init = true := rfl
theorem zpo_X1_init_33 : zputOk (1, 33, 8, 6, [0], false) mX1_init = true := rfl
theorem zpo_X1_init_37 : zputOk (1, 37, 9, 6, [0], false) mX1_init = true := rfl
theorem zpo_X1_init_40 : zputOk (1, 40, 10, 6, [0], false) mX1_init = true := rfl
theorem zpo_X1_init_43 : zputOk (1, 43, 11, 6, [0], false) mX1_init = true := rfl
theorem zpo_X1_init_46 : zputOk (1, 46, 12, 6, [0], false) mX1_init = true := rfl
theorem zpo_X1_init_49 : zputOk (1, 49, 13, 6, [0], false) mX1_init = true := rfl
theorem zpo_X1_init_56 : zputOk (1, 56, 14, 6, [0], false) mX1_init = true := rfl
theorem zpo_X1_init_63 : zputOk (1, 63, 15, 6, [0], false) mX1_init = true := rfl
theorem zpo_X1_init_67 : zputOk (1, 67, 16, 1, [0], false) mX1_init = true := rfl
theorem zpo_X1_init_71 : zputOk (1, 71, 17, 6, [0], false) mX1_init = true := rfl
theorem zpo_X1_init_74 : zputOk (1, 74, 18, 6, [0], false) mX1_init = true := rfl
theorem zpo_X1_init_78 : zputOk (1, 78, 19, 6, [0], false) mX1_init = true := rfl
theorem zpo_X1_init_83 : zputOk (1, 83, 20, 6, [0], false) mX1_init = true := rfl
theorem zpo_X1_init_87 : zputOk (1, 87, 21, 6, [0], false) mX1_init = true := rfl
theorem zpo_X1_init_90 : zputOk (1, 90, 25, 6, [0], false) mX1_init = true := rfl
theorem zpo_X1_init_95 : zputOk (1, 95, 26, 6, [0], false) mX1_init = true := rfl
theorem zpo_X1_init_100 : zputOk (1, 100, 27, 6, [0], false) mX1_init = true := rfl
theorem zpo_X1_init_104 : zputOk (1, 104, 28, 6, [0], false) mX1_init = true := rfl
theorem zpo_X1_days_110 : zputOk (1, 110, 0, 0, [0], false) mX1_days = true := rfl
theorem zpo_X1_changed_67 : zputOk (1, 67, 16, 1, [0], false) mX1_changed = true := rfl
theorem zpo_X1_view_9 : zputOk (1, 9, 1, 0, [0], false) mX1_view = true := rfl
theorem zpo_X1_terms_13 : zputOk (1, 13, 3, 0, [0], false) mX1_terms = true := rfl
theorem zpo_X1_terms_16 : zputOk (1, 16, 4, 0, [0], false) mX1_terms = true := rfl
theorem zpo_X1_terms_19 : zputOk (1, 19, 5, 0, [0], false) mX1_terms = true := rfl
theorem zpo_X1_rest_22 : zputOk (1, 22, 6, 0, [0], false) mX1_rest = true := rfl
theorem zpo_X1_rest_25 : zputOk (1, 25, 7, 0, [0], false) mX1_rest = true := rfl
theorem zpo_X1_feed_175 : zputOk (1, 175, 2, 0, [0], false) mX1_feed = true := rfl
theorem zpo_X1_brief_175 : zputOk (1, 175, 2, 0, [0], false) mX1_brief = true := rfl
theorem zpo_X1_works_67 : zputOk (1, 67, 16, 1, [0], false) mX1_works = true := rfl
theorem zpo_X1_sees_217 : zputOk (1, 217, 9, 1, [6], true) mX1_sees = true := rfl
theorem zpo_X1_sees_223 : zputOk (1, 223, 10, 0, [6], true) mX1_sees = true := rfl
theorem zpo_X1_sees_237 : zputOk (1, 237, 14, 0, [6], true) mX1_sees = true := rfl
theorem zpo_X1_sees_240 : zputOk (1, 240, 15, 6, [6], true) mX1_sees = true := rfl
theorem zpo_X1_scores_260 : zputOk (1, 260, 11, 0, [6], true) mX1_scores = true := rfl
theorem zpo_X1_scores_263 : zputOk (1, 263, 12, 0, [6], true) mX1_scores = true := rfl
theorem zpo_X1_scores_272 : zputOk (1, 272, 13, 0, [6], true) mX1_scores = true := rfl
theorem zpo_X1_seeks_237 : zputOk (1, 237, 14, 0, [6], true) mX1_seeks = true := rfl
theorem zpo_X1_seeks_274 : zputOk (1, 274, 22, 0, [0], false) mX1_seeks = true := rfl
theorem zpo_X1_seeks_290 : zputOk (1, 290, 23, 0, [0], false) mX1_seeks = true := rfl
theorem zpo_X1_meanOf_321 : zputOk (1, 321, 24, 0, [0], false) mX1_meanOf = true := rfl
theorem zpo_X2_begin_9 : zputOk (2, 9, 8, 0, [1], false) mX2_begin = true := rfl
theorem zpo_X2_begin_15 : zputOk (2, 15, 9, 0, [1], false) mX2_begin = true := rfl
theorem zpo_X2_begin_18 : zputOk (2, 18, 10, 0, [1], false) mX2_begin = true := rfl
theorem zpo_X2_begin_21 : zputOk (2, 21, 0, 6, [1], false) mX2_begin = true := rfl
theorem zpo_X2_begin_25 : zputOk (2, 25, 1, 0, [1], false) mX2_begin = true := rfl
theorem zpo_X2_begin_28 : zputOk (2, 28, 2, 0, [1], false) mX2_begin = true := rfl
theorem zpo_X2_begin_31 : zputOk (2, 31, 6, 0, [1], false) mX2_begin = true := rfl
theorem zpo_X2_begin_39 : zputOk (2, 39, 7, 6, [1], false) mX2_begin = true := rfl
theorem zpo_X2_next_28 : zputOk (2, 28, 2, 0, [1], false) mX2_next = true := rfl
theorem zpo_X2_next_46 : zputOk (2, 46, 4, 0, [1], false) mX2_next = true := rfl
theorem zpo_X2_next_49 : zputOk (2, 49, 3, 0, [1], false) mX2_next = true := rfl
theorem zpo_X2_next_63 : zputOk (2, 63, 5, 0, [1], false) mX2_next = true := rfl
theorem zpo_X2_part_31 : zputOk (2, 31, 6, 0, [1], false) mX2_part = true := rfl
theorem zpo_X3_init_9 : zputOk (3, 9, 0, 6, [2], false) mX3_init = true := rfl
theorem zpo_X3_init_15 : zputOk (3, 15, 1, 6, [2], false) mX3_init = true := rfl
theorem zpo_X4_feed_1 : zputOk (4, 1, 0, 0, [3], false) mX4_feed = true := rfl
theorem zpo_X4_lay_11 : zputOk (4, 11, 2, 0, [3], false) mX4_lay = true := rfl
theorem zpo_X4_init_14 : zputOk (4, 14, 1, 6, [3], false) mX4_init = true := rfl
theorem zpo_X4_init_24 : zputOk (4, 24, 4, 6, [3], false) mX4_init = true := rfl
theorem zpo_X4_init_27 : zputOk (4, 27, 5, 6, [3], false) mX4_init = true := rfl
theorem zpo_X4_init_30 : zputOk (4, 30, 6, 6, [3], false) mX4_init = true := rfl
theorem zpo_X4_init_64 : zputOk (4, 64, 9, 6, [3], false) mX4_init = true := rfl
theorem zpo_X4_init_67 : zputOk (4, 67, 11, 6, [3], false) mX4_init = true := rfl
theorem zpo_X4_init_70 : zputOk (4, 70, 12, 6, [3], false) mX4_init = true := rfl
theorem zpo_X4_init_73 : zputOk (4, 73, 13, 6, [3], false) mX4_init = true := rfl
theorem zpo_X4_init_76 : zputOk (4, 76, 14, 6, [3], false) mX4_init = true := rfl
theorem zpo_X4_init_79 : zputOk (4, 79, 15, 6, [3], false) mX4_init = true := rfl
theorem zpo_X4_init_82 : zputOk (4, 82, 16, 6, [3], false) mX4_init = true := rfl
theorem zpo_X4_init_85 : zputOk (4, 85, 17, 6, [3], false) mX4_init = true := rfl
theorem zpo_X4_init_88 : zputOk (4, 88, 18, 6, [3], false) mX4_init = true := rfl
theorem zpo_X4_init_91 : zputOk (4, 91, 20, 6, [3], false) mX4_init = true := rfl
theorem zpo_X4_init_94 : zputOk (4, 94, 22, 6, [3], false) mX4_init = true := rfl
theorem zpo_X4_init_97 : zputOk (4, 97, 23, 6, [3], false) mX4_init = true := rfl
theorem zpo_X4_init_100 : zputOk (4, 100, 24, 6, [3], false) mX4_init = true := rfl
theorem zpo_X4_init_103 : zputOk (4, 103, 26, 6, [3], false) mX4_init = true := rfl
theorem zpo_X4_init_106 : zputOk (4, 106, 27, 6, [3], false) mX4_init = true := rfl
theorem zpo_X4_init_109 : zputOk (4, 109, 33, 6, [3], false) mX4_init = true := rfl
theorem zpo_X4_init_112 : zputOk (4, 112, 34, 6, [3], false) mX4_init = true := rfl
theorem zpo_X4_init_115 : zputOk (4, 115, 35, 6, [3], false) mX4_init = true := rfl
theorem zpo_X4_init_118 : zputOk (4, 118, 36, 6, [3], false) mX4_init = true := rfl
theorem zpo_X4_init_121 : zputOk (4, 121, 37, 6, [3], false) mX4_init = true := rfl
theorem zpo_X4_init_124 : zputOk (4, 124, 38, 6, [3], false) mX4_init = true := rfl
theorem zpo_X4_init_128 : zputOk (4, 128, 40, 6, [3], false) mX4_init = true := rfl
theorem zpo_X4_init_131 : zputOk (4, 131, 41, 6, [3], false) mX4_init = true := rfl
theorem zpo_X4_init_134 : zputOk (4, 134, 48, 6, [3], false) mX4_init = true := rfl
theorem zpo_X4_init_137 : zputOk (4, 137, 49, 6, [3], false) mX4_init = true := rfl
theorem zpo_X4_init_140 : zputOk (4, 140, 50, 6, [3], false) mX4_init = true := rfl
theorem zpo_X4_init_143 : zputOk (4, 143, 51, 6, [3], false) mX4_init = true := rfl
theorem zpo_X4_init_146 : zputOk (4, 146, 52, 6, [3], false) mX4_init = true := rfl
theorem zpo_X4_init_149 : zputOk (4, 149, 53, 6, [3], false) mX4_init = true := rfl
theorem zpo_X4_init_152 : zputOk (4, 152, 54, 6, [3], false) mX4_init = true := rfl
theorem zpo_X4_init_155 : zputOk (4, 155, 55, 6, [3], false) mX4_init = true := rfl
theorem zpo_X4_init_158 : zputOk (4, 158, 57, 6, [3], false) mX4_init = true := rfl
theorem zpo_X4_init_161 : zputOk (4, 161, 58, 6, [3], false) mX4_init = true := rfl
theorem zpo_X4_init_164 : zputOk (4, 164, 59, 6, [3], false) mX4_init = true := rfl
theorem zpo_X4_init_167 : zputOk (4, 167, 61, 6, [3], false) mX4_init = true := rfl
theorem zpo_X4_init_170 : zputOk (4, 170, 62, 6, [3], false) mX4_init = true := rfl
theorem zpo_X4_init_173 : zputOk (4, 173, 63, 6, [3], false) mX4_init = true := rfl
theorem zpo_X4_init_176 : zputOk (4, 176, 64, 6, [3], false) mX4_init = true := rfl
theorem zpo_X4_init_179 : zputOk (4, 179, 66, 6, [3], false) mX4_init = true := rfl
theorem zpo_X4_init_182 : zputOk (4, 182, 67, 6, [3], false) mX4_init = true := rfl
theorem zpo_X4_init_185 : zputOk (4, 185, 71, 6, [3], false) mX4_init = true := rfl
theorem zpo_X4_init_188 : zputOk (4, 188, 72, 6, [3], false) mX4_init = true := rfl
theorem zpo_X4_init_191 : zputOk (4, 191, 73, 6, [3], false) mX4_init = true := rfl
theorem zpo_X4_init_194 : zputOk (4, 194, 74, 6, [3], false) mX4_init = true := rfl
theorem zpo_X4_init_197 : zputOk (4, 197, 75, 6, [3], false) mX4_init = true := rfl
theorem zpo_X4_init_200 : zputOk (4, 200, 76, 6, [3], false) mX4_init = true := rfl
theorem zpo_X4_init_204 : zputOk (4, 204, 77, 6, [3], false) mX4_init = true := rfl
theorem zpo_X4_init_207 : zputOk (4, 207, 78, 6, [3], false) mX4_init = true := rfl
theorem zpo_X4_init_210 : zputOk (4, 210, 79, 6, [3], false) mX4_init = true := rfl
theorem zpo_X4_init_213 : zputOk (4, 213, 80, 6, [3], false) mX4_init = true := rfl
theorem zpo_X4_init_216 : zputOk (4, 216, 31, 0, [3], false) mX4_init = true := rfl
theorem zpo_X4_init_219 : zputOk (4, 219, 42, 0, [3], false) mX4_init = true := rfl
theorem zpo_X4_init_222 : zputOk (4, 222, 43, 0, [3], false) mX4_init = true := rfl
theorem zpo_X4_init_225 : zputOk (4, 225, 44, 0, [3], false) mX4_init = true := rfl
theorem zpo_X4_init_228 : zputOk (4, 228, 45, 0, [3], false) mX4_init = true := rfl
theorem zpo_X4_init_231 : zputOk (4, 231, 46, 0, [3], false) mX4_init = true := rfl
theorem zpo_X4_brief_1 : zputOk (4, 1, 0, 0, [3], false) mX4_brief = true := rfl
theorem zpo_X4_brief_11 : zputOk (4, 11, 2, 0, [3], false) mX4_brief = true := rfl
theorem zpo_X4_brief_276 : zputOk (4, 276, 21, 0, [3], false) mX4_brief = true := rfl
theorem zpo_X4_brief_285 : zputOk (4, 285, 19, 0, [3], false) mX4_brief = true := rfl
theorem zpo_X4_cutAll_11 : zputOk (4, 11, 2, 0, [3], false) mX4_cutAll = true := rfl
theorem zpo_X4_cutAll_238 : zputOk (4, 238, 3, 0, [3], false) mX4_cutAll = true := rfl
theorem zpo_X4_cutAll_257 : zputOk (4, 257, 7, 0, [3], false) mX4_cutAll = true := rfl
theorem zpo_X4_cutAll_260 : zputOk (4, 260, 8, 0, [3], false) mX4_cutAll = true := rfl
theorem zpo_X4_readLine_257 : zputOk (4, 257, 7, 0, [3], false) mX4_readLine = true := rfl
theorem zpo_X4_wrong_260 : zputOk (4, 260, 8, 0, [3], false) mX4_wrong = true := rfl
theorem zpo_X4_readLet_257 : zputOk (4, 257, 7, 0, [3], false) mX4_readLet = true := rfl
theorem zpo_X4_readLet_285 : zputOk (4, 285, 19, 0, [3], false) mX4_readLet = true := rfl
theorem zpo_X4_takeSign_257 : zputOk (4, 257, 7, 0, [3], false) mX4_takeSign = true := rfl
theorem zpo_X4_all_257 : zputOk (4, 257, 7, 0, [3], false) mX4_all = true := rfl
theorem zpo_X4_sums_257 : zputOk (4, 257, 7, 0, [3], false) mX4_sums = true := rfl
theorem zpo_X4_takePart_257 : zputOk (4, 257, 7, 0, [3], false) mX4_takePart = true := rfl
theorem zpo_X4_hasWord_257 : zputOk (4, 257, 7, 0, [3], false) mX4_hasWord = true := rfl
theorem zpo_X4_emit_276 : zputOk (4, 276, 21, 0, [3], false) mX4_emit = true := rfl
theorem zpo_X4_takeNumber_257 : zputOk (4, 257, 7, 0, [3], false) mX4_takeNumber = true := rfl
theorem zpo_X4_hasSign_257 : zputOk (4, 257, 7, 0, [3], false) mX4_hasSign = true := rfl
theorem zpo_X4_keeps_279 : zputOk (4, 279, 10, 0, [3], false) mX4_keeps = true := rfl
theorem zpo_X4_days_1 : zputOk (4, 1, 0, 0, [3], false) mX4_days = true := rfl
theorem zpo_X4_days_295 : zputOk (4, 295, 30, 0, [3], false) mX4_days = true := rfl
theorem zpo_X4_view_1 : zputOk (4, 1, 0, 0, [3], false) mX4_view = true := rfl
theorem zpo_X4_view_216 : zputOk (4, 216, 31, 0, [3], false) mX4_view = true := rfl
theorem zpo_X4_shop_1 : zputOk (4, 1, 0, 0, [3], false) mX4_shop = true := rfl
theorem zpo_X4_shop_366 : zputOk (4, 366, 32, 0, [3], false) mX4_shop = true := rfl
theorem zpo_X4_buyer_1 : zputOk (4, 1, 0, 0, [3], false) mX4_buyer = true := rfl
theorem zpo_X4_buyer_369 : zputOk (4, 369, 39, 0, [3], false) mX4_buyer = true := rfl
theorem zpo_X4_terms_1 : zputOk (4, 1, 0, 0, [3], false) mX4_terms = true := rfl
theorem zpo_X4_terms_219 : zputOk (4, 219, 42, 0, [3], false) mX4_terms = true := rfl
theorem zpo_X4_terms_222 : zputOk (4, 222, 43, 0, [3], false) mX4_terms = true := rfl
theorem zpo_X4_terms_225 : zputOk (4, 225, 44, 0, [3], false) mX4_terms = true := rfl
theorem zpo_X4_rest_1 : zputOk (4, 1, 0, 0, [3], false) mX4_rest = true := rfl
theorem zpo_X4_rest_228 : zputOk (4, 228, 45, 0, [3], false) mX4_rest = true := rfl
theorem zpo_X4_rest_231 : zputOk (4, 231, 46, 0, [3], false) mX4_rest = true := rfl
theorem zpo_X4_visit_1 : zputOk (4, 1, 0, 0, [3], false) mX4_visit = true := rfl
theorem zpo_X4_visit_372 : zputOk (4, 372, 47, 0, [3], false) mX4_visit = true := rfl
theorem zpo_X4_appeal_1 : zputOk (4, 1, 0, 0, [3], false) mX4_appeal = true := rfl
theorem zpo_X4_appeal_385 : zputOk (4, 385, 56, 0, [3], false) mX4_appeal = true := rfl
theorem zpo_X4_look_1 : zputOk (4, 1, 0, 0, [3], false) mX4_look = true := rfl
theorem zpo_X4_findAll_400 : zputOk (4, 400, 60, 0, [3], false) mX4_findAll = true := rfl
theorem zpo_X4_findAll_422 : zputOk (4, 422, 70, 0, [3], false) mX4_findAll = true := rfl
theorem zpo_X4_tells_342 : zputOk (4, 342, 25, 0, [3], false) mX4_tells = true := rfl
theorem zpo_X4_judges_349 : zputOk (4, 349, 28, 0, [3], false) mX4_judges = true := rfl
theorem zpo_X4_judges_352 : zputOk (4, 352, 29, 0, [3], false) mX4_judges = true := rfl
theorem zpo_X4_findFewest_428 : zputOk (4, 428, 68, 0, [3], false) mX4_findFewest = true := rfl
theorem zpo_X4_findFewest_435 : zputOk (4, 435, 65, 0, [3], false) mX4_findFewest = true := rfl
theorem zpo_X4_findFewest_441 : zputOk (4, 441, 69, 0, [3], false) mX4_findFewest = true := rfl
theorem zpo_X4_fewest_1 : zputOk (4, 1, 0, 0, [3], false) mX4_fewest = true := rfl
theorem zpo_X4_set_1 : zputOk (4, 1, 0, 0, [3], false) mX4_set = true := rfl
theorem zpo_X4_fair_1 : zputOk (4, 1, 0, 0, [3], false) mX4_fair = true := rfl
theorem zpo_X4_lean_1 : zputOk (4, 1, 0, 0, [3], false) mX4_lean = true := rfl
theorem zpo_X4_meetings_1 : zputOk (4, 1, 0, 0, [3], false) mX4_meetings = true := rfl
theorem zpo_X4_mean_1 : zputOk (4, 1, 0, 0, [3], false) mX4_mean = true := rfl
theorem zpo_X4_doubt_1 : zputOk (4, 1, 0, 0, [3], false) mX4_doubt = true := rfl
theorem zpo_X4_apart_1 : zputOk (4, 1, 0, 0, [3], false) mX4_apart = true := rfl
theorem zpo_X4_order_1 : zputOk (4, 1, 0, 0, [3], false) mX4_order = true := rfl
theorem zpo_X4_enough_1 : zputOk (4, 1, 0, 0, [3], false) mX4_enough = true := rfl
theorem zpo_X4_may_1 : zputOk (4, 1, 0, 0, [3], false) mX4_may = true := rfl
theorem zpo_X4_given_1 : zputOk (4, 1, 0, 0, [3], false) mX4_given = true := rfl
theorem zpo_X4_drawn_1 : zputOk (4, 1, 0, 0, [3], false) mX4_drawn = true := rfl
theorem zpo_X4_sway_1 : zputOk (4, 1, 0, 0, [3], false) mX4_sway = true := rfl
theorem zpo_X4_sum_1 : zputOk (4, 1, 0, 0, [3], false) mX4_sum = true := rfl
theorem zpo_X4_count_1 : zputOk (4, 1, 0, 0, [3], false) mX4_count = true := rfl
theorem zpo_X5_init_7 : zputOk (5, 7, 0, 0, [4], false) mX5_init = true := rfl
theorem zpo_X5_init_13 : zputOk (5, 13, 4, 6, [4], false) mX5_init = true := rfl
theorem zpo_X5_init_17 : zputOk (5, 17, 1, 0, [4], false) mX5_init = true := rfl
theorem zpo_X5_init_20 : zputOk (5, 20, 2, 0, [4], false) mX5_init = true := rfl
theorem zpo_X5_init_23 : zputOk (5, 23, 3, 0, [4], false) mX5_init = true := rfl
theorem zpo_X5_init_26 : zputOk (5, 26, 5, 1, [4], false) mX5_init = true := rfl
theorem zpo_X6_init_7 : zputOk (6, 7, 0, 0, [5], false) mX6_init = true := rfl
theorem zpo_X6_init_13 : zputOk (6, 13, 1, 0, [5], false) mX6_init = true := rfl
theorem zpo_X7_init_9 : zputOk (7, 9, 0, 0, [6], false) mX7_init = true := rfl
theorem zpo_X7_init_15 : zputOk (7, 15, 8, 6, [6], false) mX7_init = true := rfl
theorem zpo_X7_init_19 : zputOk (7, 19, 1, 0, [6], false) mX7_init = true := rfl
theorem zpo_X7_init_22 : zputOk (7, 22, 2, 0, [6], false) mX7_init = true := rfl
theorem zpo_X7_init_25 : zputOk (7, 25, 3, 0, [6], false) mX7_init = true := rfl
theorem zpo_X7_init_28 : zputOk (7, 28, 4, 0, [6], false) mX7_init = true := rfl
theorem zpo_X7_init_31 : zputOk (7, 31, 5, 0, [6], false) mX7_init = true := rfl
theorem zpo_X7_init_34 : zputOk (7, 34, 6, 0, [6], false) mX7_init = true := rfl
theorem zpo_X7_init_37 : zputOk (7, 37, 7, 0, [6], false) mX7_init = true := rfl
theorem zpo_X8_init_7 : zputOk (8, 7, 0, 6, [7], false) mX8_init = true := rfl
theorem zpo_X8_init_13 : zputOk (8, 13, 1, 0, [7], false) mX8_init = true := rfl
theorem zpo_X8_init_17 : zputOk (8, 17, 2, 0, [7], false) mX8_init = true := rfl
theorem zpo_X9_init_14 : zputOk (9, 14, 3, 6, [8], false) mX9_init = true := rfl
theorem zpo_X9_init_20 : zputOk (9, 20, 4, 6, [8], false) mX9_init = true := rfl
theorem zpo_X9_init_23 : zputOk (9, 23, 5, 6, [8], false) mX9_init = true := rfl
theorem zpo_X9_init_26 : zputOk (9, 26, 0, 0, [8], false) mX9_init = true := rfl
theorem zpo_X9_init_30 : zputOk (9, 30, 1, 0, [8], false) mX9_init = true := rfl
theorem zpo_X9_init_33 : zputOk (9, 33, 2, 0, [8], false) mX9_init = true := rfl
theorem zpo_X10_init_7 : zputOk (10, 7, 6, 0, [9], false) mX10_init = true := rfl
theorem zpo_X12_init_7 : zputOk (12, 7, 0, 0, [10], false) mX12_init = true := rfl
theorem zpo_X13_init_7 : zputOk (13, 7, 0, 0, [11], false) mX13_init = true := rfl
theorem zpo_X14_init_7 : zputOk (14, 7, 0, 0, [12], false) mX14_init = true := rfl
theorem zpo_X15_init_7 : zputOk (15, 7, 0, 6, [13], false) mX15_init = true := rfl
theorem zpo_X16_init_12 : zputOk (16, 12, 0, 6, [14], false) mX16_init = true := rfl
theorem zpo_X16_init_21 : zputOk (16, 21, 1, 6, [14], false) mX16_init = true := rfl
theorem zpo_X17_init_9 : zputOk (17, 9, 0, 6, [15, 16, 17], false) mX17_init = true := rfl
theorem zpo_X19_init_7 : zputOk (19, 7, 1, 6, [16], false) mX19_init = true := rfl
theorem zpo_X20_init_7 : zputOk (20, 7, 1, 0, [17], false) mX20_init = true := rfl
theorem zpo_J1_init_7 : zputOk (22, 7, 0, 0, [18], false) mJ1_init = true := rfl
theorem zpo_J2_init_9 : zputOk (23, 9, 1, 6, [18], false) mJ2_init = true := rfl
theorem zpo_J2_add_63 : zputOk (23, 63, 0, 0, [18], false) mJ2_add = true := rfl
theorem zpo_J2_add_2_48 : zputOk (23, 48, 2, 0, [18], false) mJ2_add_2 = true := rfl
theorem zpo_J2_grow_2_9 : zputOk (23, 9, 1, 6, [18], false) mJ2_grow_2 = true := rfl
theorem zpo_J2_clear_48 : zputOk (23, 48, 2, 0, [18], false) mJ2_clear = true := rfl
theorem zpo_J2_clear_63 : zputOk (23, 63, 0, 0, [18], false) mJ2_clear = true := rfl
theorem zpo_J2_add_3_48 : zputOk (23, 48, 2, 0, [18], false) mJ2_add_3 = true := rfl
theorem zpo_J2_add_3_63 : zputOk (23, 63, 0, 0, [18], false) mJ2_add_3 = true := rfl
theorem zpo_J8_init_2_9 : zputOk (29, 9, 0, 6, [19, 21], false) mJ8_init_2 = true := rfl
theorem zpo_J8_init_2_15 : zputOk (29, 15, 1, 2, [19, 21], false) mJ8_init_2 = true := rfl
theorem zpo_J12_init_2_7 : zputOk (33, 7, 0, 6, [9], false) mJ12_init_2 = true := rfl
theorem zpo_J12_init_2_17 : zputOk (33, 17, 1, 6, [9], false) mJ12_init_2 = true := rfl
theorem zpo_J12_init_2_24 : zputOk (33, 24, 2, 6, [9], false) mJ12_init_2 = true := rfl
theorem zpo_J12_init_2_31 : zputOk (33, 31, 3, 6, [9], false) mJ12_init_2 = true := rfl
theorem zpo_J15_init_15 : zputOk (36, 15, 0, 6, [20], false) mJ15_init = true := rfl
theorem zpo_J15_init_22 : zputOk (36, 22, 1, 2, [20], false) mJ15_init = true := rfl
theorem zpo_J15_append_79 : zputOk (36, 79, 3, 0, [20], false) mJ15_append = true := rfl
theorem zpo_J15_ensureCapacityInternal_15 : zputOk (36, 15, 0, 6, [20], false) mJ15_ensureCapacityInternal = true := rfl
theorem zpo_J15_inflate_15 : zputOk (36, 15, 0, 6, [20], false) mJ15_inflate = true := rfl
theorem zpo_J15_inflate_22 : zputOk (36, 22, 1, 2, [20], false) mJ15_inflate = true := rfl
theorem cK_X0_look_X1_look {G : Nat → Option Nat} {d pc : Nat} {ls : zLs} {rest : List zV} {h : zH} {r0 : Option Nat} {x1 : Int32} {x2 : Int32} : zK2 (runF G) d mX0_look pc (zcallTo d mX0_look 49 [zr r0, zi x1, zi x2] h ls rest) = if zsum rest ≤ 8 then (callF G d mX1_look [zr r0, zi x1, zi x2] h).bind (zback (runF G) d mX0_look pc ls rest) else none := zK_call2 (d' := d) rfl rfl (Nat.le_of_ble_eq_true rfl)
theorem cK_X0_fair_X1_fair_2 {G : Nat → Option Nat} {d pc : Nat} {ls : zLs} {rest : List zV} {h : zH} {r0 : Option Nat} {x1 : Int32} : zK2 (runF G) d mX0_fair pc (zcallTo d mX0_fair 52 [zr r0, zi x1] h ls rest) = if zsum rest ≤ 8 then (callF G d mX1_fair_2 [zr r0, zi x1] h).bind (zback (runF G) d mX0_fair pc ls rest) else none := zK_call2 (d' := d) rfl rfl (Nat.le_of_ble_eq_true rfl)
theorem cK_X0_lean_X1_lean {G : Nat → Option Nat} {d pc : Nat} {ls : zLs} {rest : List zV} {h : zH} {r0 : Option Nat} {x1 : Int32} : zK2 (runF G) d mX0_lean pc (zcallTo d mX0_lean 53 [zr r0, zi x1] h ls rest) = if zsum rest ≤ 8 then (callF G d mX1_lean [zr r0, zi x1] h).bind (zback (runF G) d mX0_lean pc ls rest) else none := zK_call2 (d' := d) rfl rfl (Nat.le_of_ble_eq_true rfl)
theorem cK_X0_mean_X1_mean {G : Nat → Option Nat} {d pc : Nat} {ls : zLs} {rest : List zV} {h : zH} {r0 : Option Nat} {x1 : Int32} {x2 : Int32} {x3 : Int32} : zK2 (runF G) d mX0_mean pc (zcallTo d mX0_mean 54 [zr r0, zi x1, zi x2, zi x3] h ls rest) = if zsum rest ≤ 8 then (callF G d mX1_mean [zr r0, zi x1, zi x2, zi x3] h).bind (zback (runF G) d mX0_mean pc ls rest) else none := zK_call2 (d' := d) rfl rfl (Nat.le_of_ble_eq_true rfl)
theorem cK_X1_init_X2_init {G : Nat → Option Nat} {d pc : Nat} {ls : zLs} {rest : List zV} {h : zH} {r0 : Option Nat} : zK2 (runF G) d mX1_init pc (zcallTo d mX1_init 55 [zr r0] h ls rest) = if zsum rest ≤ 8 then (callF G d mX2_init [zr r0] h).bind (zback (runF G) d mX1_init pc ls rest) else none := zK_call2 (d' := d) rfl rfl (Nat.le_of_ble_eq_true rfl)
theorem cK_X1_init_X3_init {G : Nat → Option Nat} {d pc : Nat} {ls : zLs} {rest : List zV} {h : zH} {r0 : Option Nat} : zK2 (runF G) d mX1_init pc (zcallTo d mX1_init 76 [zr r0] h ls rest) = if zsum rest ≤ 8 then (callF G d mX3_init [zr r0] h).bind (zback (runF G) d mX1_init pc ls rest) else none := zK_call2 (d' := d) rfl rfl (Nat.le_of_ble_eq_true rfl)
theorem cK_X1_init_J2_init {G : Nat → Option Nat} {d pc : Nat} {ls : zLs} {rest : List zV} {h : zH} {r0 : Option Nat} {x1 : Int32} : zK2 (runF G) d mX1_init pc (zcallTo d mX1_init 213 [zr r0, zi x1] h ls rest) = if zsum rest ≤ 8 then (callF G d mJ2_init [zr r0, zi x1] h).bind (zback (runF G) d mX1_init pc ls rest) else none := zK_call2 (d' := d) rfl rfl (Nat.le_of_ble_eq_true rfl)
theorem cK_X1_days_X1_in {G : Nat → Option Nat} {d pc : Nat} {ls : zLs} {rest : List zV} {h : zH} {x0 : Int32} {x1 : Int32} {x2 : Int32} : zK2 (runF G) d mX1_days pc (zcallTo d mX1_days 6 [zi x0, zi x1, zi x2] h ls rest) = if zsum rest ≤ 8 then (callF G d mX1_in [zi x0, zi x1, zi x2] h).bind (zback (runF G) d mX1_days pc ls rest) else none := zK_call2 (d' := d) rfl rfl (Nat.le_of_ble_eq_true rfl)
theorem cK_X1_days_X1_changed {G : Nat → Option Nat} {d pc : Nat} {ls : zLs} {rest : List zV} {h : zH} {r0 : Option Nat} : zK2 (runF G) d mX1_days pc (zcallTo d mX1_days 7 [zr r0] h ls rest) = if zsum rest ≤ 8 then (callF G d mX1_changed [zr r0] h).bind (zback (runF G) d mX1_days pc ls rest) else none := zK_call2 (d' := d) rfl rfl (Nat.le_of_ble_eq_true rfl)
theorem cK_X1_view_X1_in {G : Nat → Option Nat} {d pc : Nat} {ls : zLs} {rest : List zV} {h : zH} {x0 : Int32} {x1 : Int32} {x2 : Int32} : zK2 (runF G) d mX1_view pc (zcallTo d mX1_view 6 [zi x0, zi x1, zi x2] h ls rest) = if zsum rest ≤ 8 then (callF G d mX1_in [zi x0, zi x1, zi x2] h).bind (zback (runF G) d mX1_view pc ls rest) else none := zK_call2 (d' := d) rfl rfl (Nat.le_of_ble_eq_true rfl)
theorem cK_X1_view_X1_changed {G : Nat → Option Nat} {d pc : Nat} {ls : zLs} {rest : List zV} {h : zH} {r0 : Option Nat} : zK2 (runF G) d mX1_view pc (zcallTo d mX1_view 7 [zr r0] h ls rest) = if zsum rest ≤ 8 then (callF G d mX1_changed [zr r0] h).bind (zback (runF G) d mX1_view pc ls rest) else none := zK_call2 (d' := d) rfl rfl (Nat.le_of_ble_eq_true rfl)
theorem cK_X1_shop_X1_in {G : Nat → Option Nat} {d pc : Nat} {ls : zLs} {rest : List zV} {h : zH} {x0 : Int32} {x1 : Int32} {x2 : Int32} : zK2 (runF G) d mX1_shop pc (zcallTo d mX1_shop 6 [zi x0, zi x1, zi x2] h ls rest) = if zsum rest ≤ 8 then (callF G d mX1_in [zi x0, zi x1, zi x2] h).bind (zback (runF G) d mX1_shop pc ls rest) else none := zK_call2 (d' := d) rfl rfl (Nat.le_of_ble_eq_true rfl)
theorem cK_X1_shop_X5_init {G : Nat → Option Nat} {d pc : Nat} {ls : zLs} {rest : List zV} {h : zH} {r0 : Option Nat} {x1 : Int32} {r2 : Option Nat} {x3 : Int32} {x4 : Int32} {x5 : Int32} {x6 : Int32} : zK2 (runF G) d mX1_shop pc (zcallTo d mX1_shop 171 [zr r0, zi x1, zr r2, zi x3, zi x4, zi x5, zi x6] h ls rest) = if zsum rest ≤ 8 then (callF G d mX5_init [zr r0, zi x1, zr r2, zi x3, zi x4, zi x5, zi x6] h).bind (zback (runF G) d mX1_shop pc ls rest) else none := zK_call2 (d' := d) rfl rfl (Nat.le_of_ble_eq_true rfl)
theorem cK_X1_shop_X6_init {G : Nat → Option Nat} {d pc : Nat} {ls : zLs} {rest : List zV} {h : zH} {r0 : Option Nat} {x1 : Int32} {x2 : Int32} : zK2 (runF G) d mX1_shop pc (zcallTo d mX1_shop 172 [zr r0, zi x1, zi x2] h ls rest) = if zsum rest ≤ 8 then (callF G d mX6_init [zr r0, zi x1, zi x2] h).bind (zback (runF G) d mX1_shop pc ls rest) else none := zK_call2 (d' := d) rfl rfl (Nat.le_of_ble_eq_true rfl)
theorem cK_X1_shop_J2_size {G : Nat → Option Nat} {d pc : Nat} {ls : zLs} {rest : List zV} {h : zH} {r0 : Option Nat} : zK2 (runF G) d mX1_shop pc (zcallTo d mX1_shop 214 [zr r0] h ls rest) = if zsum rest ≤ 8 then (callF G d mJ2_size [zr r0] h).bind (zback (runF G) d mX1_shop pc ls rest) else none := zK_call2 (d' := d) rfl rfl (Nat.le_of_ble_eq_true rfl)
theorem cK_X1_shop_J2_add {G : Nat → Option Nat} {d pc : Nat} {ls : zLs} {rest : List zV} {h : zH} {r0 : Option Nat} {r1 : Option Nat} : zK2 (runF G) d mX1_shop pc (zcallTo d mX1_shop 215 [zr r0, zr r1] h ls rest) = if zsum rest ≤ 8 then (callF G d mJ2_add [zr r0, zr r1] h).bind (zback (runF G) d mX1_shop pc ls rest) else none := zK_call2 (d' := d) rfl rfl (Nat.le_of_ble_eq_true rfl)
theorem cK_X1_buyer_X1_in {G : Nat → Option Nat} {d pc : Nat} {ls : zLs} {rest : List zV} {h : zH} {x0 : Int32} {x1 : Int32} {x2 : Int32} : zK2 (runF G) d mX1_buyer pc (zcallTo d mX1_buyer 6 [zi x0, zi x1, zi x2] h ls rest) = if zsum rest ≤ 8 then (callF G d mX1_in [zi x0, zi x1, zi x2] h).bind (zback (runF G) d mX1_buyer pc ls rest) else none := zK_call2 (d' := d) rfl rfl (Nat.le_of_ble_eq_true rfl)
theorem cK_X1_buyer_X6_init {G : Nat → Option Nat} {d pc : Nat} {ls : zLs} {rest : List zV} {h : zH} {r0 : Option Nat} {x1 : Int32} {x2 : Int32} : zK2 (runF G) d mX1_buyer pc (zcallTo d mX1_buyer 172 [zr r0, zi x1, zi x2] h ls rest) = if zsum rest ≤ 8 then (callF G d mX6_init [zr r0, zi x1, zi x2] h).bind (zback (runF G) d mX1_buyer pc ls rest) else none := zK_call2 (d' := d) rfl rfl (Nat.le_of_ble_eq_true rfl)
theorem cK_X1_buyer_J2_size {G : Nat → Option Nat} {d pc : Nat} {ls : zLs} {rest : List zV} {h : zH} {r0 : Option Nat} : zK2 (runF G) d mX1_buyer pc (zcallTo d mX1_buyer 214 [zr r0] h ls rest) = if zsum rest ≤ 8 then (callF G d mJ2_size [zr r0] h).bind (zback (runF G) d mX1_buyer pc ls rest) else none := zK_call2 (d' := d) rfl rfl (Nat.le_of_ble_eq_true rfl)
theorem cK_X1_buyer_J2_add {G : Nat → Option Nat} {d pc : Nat} {ls : zLs} {rest : List zV} {h : zH} {r0 : Option Nat} {r1 : Option Nat} : zK2 (runF G) d mX1_buyer pc (zcallTo d mX1_buyer 215 [zr r0, zr r1] h ls rest) = if zsum rest ≤ 8 then (callF G d mJ2_add [zr r0, zr r1] h).bind (zback (runF G) d mX1_buyer pc ls rest) else none := zK_call2 (d' := d) rfl rfl (Nat.le_of_ble_eq_true rfl)
theorem cK_X1_terms_X1_in {G : Nat → Option Nat} {d pc : Nat} {ls : zLs} {rest : List zV} {h : zH} {x0 : Int32} {x1 : Int32} {x2 : Int32} : zK2 (runF G) d mX1_terms pc (zcallTo d mX1_terms 6 [zi x0, zi x1, zi x2] h ls rest) = if zsum rest ≤ 8 then (callF G d mX1_in [zi x0, zi x1, zi x2] h).bind (zback (runF G) d mX1_terms pc ls rest) else none := zK_call2 (d' := d) rfl rfl (Nat.le_of_ble_eq_true rfl)
theorem cK_X1_terms_X1_changed {G : Nat → Option Nat} {d pc : Nat} {ls : zLs} {rest : List zV} {h : zH} {r0 : Option Nat} : zK2 (runF G) d mX1_terms pc (zcallTo d mX1_terms 7 [zr r0] h ls rest) = if zsum rest ≤ 8 then (callF G d mX1_changed [zr r0] h).bind (zback (runF G) d mX1_terms pc ls rest) else none := zK_call2 (d' := d) rfl rfl (Nat.le_of_ble_eq_true rfl)
theorem cK_X1_rest_X1_in {G : Nat → Option Nat} {d pc : Nat} {ls : zLs} {rest : List zV} {h : zH} {x0 : Int32} {x1 : Int32} {x2 : Int32} : zK2 (runF G) d mX1_rest pc (zcallTo d mX1_rest 6 [zi x0, zi x1, zi x2] h ls rest) = if zsum rest ≤ 8 then (callF G d mX1_in [zi x0, zi x1, zi x2] h).bind (zback (runF G) d mX1_rest pc ls rest) else none := zK_call2 (d' := d) rfl rfl (Nat.le_of_ble_eq_true rfl)
theorem cK_X1_visit_X1_in {G : Nat → Option Nat} {d pc : Nat} {ls : zLs} {rest : List zV} {h : zH} {x0 : Int32} {x1 : Int32} {x2 : Int32} : zK2 (runF G) d mX1_visit pc (zcallTo d mX1_visit 6 [zi x0, zi x1, zi x2] h ls rest) = if zsum rest ≤ 8 then (callF G d mX1_in [zi x0, zi x1, zi x2] h).bind (zback (runF G) d mX1_visit pc ls rest) else none := zK_call2 (d' := d) rfl rfl (Nat.le_of_ble_eq_true rfl)
theorem cK_X1_visit_X1_changed {G : Nat → Option Nat} {d pc : Nat} {ls : zLs} {rest : List zV} {h : zH} {r0 : Option Nat} : zK2 (runF G) d mX1_visit pc (zcallTo d mX1_visit 7 [zr r0] h ls rest) = if zsum rest ≤ 8 then (callF G d mX1_changed [zr r0] h).bind (zback (runF G) d mX1_visit pc ls rest) else none := zK_call2 (d' := d) rfl rfl (Nat.le_of_ble_eq_true rfl)
theorem cK_X1_visit_X1_isShop {G : Nat → Option Nat} {d pc : Nat} {ls : zLs} {rest : List zV} {h : zH} {r0 : Option Nat} {x1 : Int32} : zK2 (runF G) d mX1_visit pc (zcallTo d mX1_visit 14 [zr r0, zi x1] h ls rest) = if zsum rest ≤ 8 then (callF G d mX1_isShop [zr r0, zi x1] h).bind (zback (runF G) d mX1_visit pc ls rest) else none := zK_call2 (d' := d) rfl rfl (Nat.le_of_ble_eq_true rfl)
theorem cK_X1_visit_X1_isBuyer {G : Nat → Option Nat} {d pc : Nat} {ls : zLs} {rest : List zV} {h : zH} {r0 : Option Nat} {x1 : Int32} : zK2 (runF G) d mX1_visit pc (zcallTo d mX1_visit 15 [zr r0, zi x1] h ls rest) = if zsum rest ≤ 8 then (callF G d mX1_isBuyer [zr r0, zi x1] h).bind (zback (runF G) d mX1_visit pc ls rest) else none := zK_call2 (d' := d) rfl rfl (Nat.le_of_ble_eq_true rfl)
theorem cK_X1_visit_X7_init {G : Nat → Option Nat} {d pc : Nat} {ls : zLs} {rest : List zV} {h : zH} {r0 : Option Nat} {x1 : Int32} {r2 : Option Nat} {x3 : Int32} {x4 : Int32} {x5 : Int32} {x6 : Int32} {x7 : Int32} {x8 : Int32} {x9 : Int32} : zK2 (runF G) d mX1_visit pc (zcallTo d mX1_visit 174 [zr r0, zi x1, zr r2, zi x3, zi x4, zi x5, zi x6, zi x7, zi x8, zi x9] h ls rest) = if zsum rest ≤ 8 then (callF G d mX7_init [zr r0, zi x1, zr r2, zi x3, zi x4, zi x5, zi x6, zi x7, zi x8, zi x9] h).bind (zback (runF G) d mX1_visit pc ls rest) else none := zK_call2 (d' := d) rfl rfl (Nat.le_of_ble_eq_true rfl)
theorem cK_X1_visit_J2_size {G : Nat → Option Nat} {d pc : Nat} {ls : zLs} {rest : List zV} {h : zH} {r0 : Option Nat} : zK2 (runF G) d mX1_visit pc (zcallTo d mX1_visit 214 [zr r0] h ls rest) = if zsum rest ≤ 8 then (callF G d mJ2_size [zr r0] h).bind (zback (runF G) d mX1_visit pc ls rest) else none := zK_call2 (d' := d) rfl rfl (Nat.le_of_ble_eq_true rfl)
theorem cK_X1_visit_J2_add {G : Nat → Option Nat} {d pc : Nat} {ls : zLs} {rest : List zV} {h : zH} {r0 : Option Nat} {r1 : Option Nat} : zK2 (runF G) d mX1_visit pc (zcallTo d mX1_visit 215 [zr r0, zr r1] h ls rest) = if zsum rest ≤ 8 then (callF G d mJ2_add [zr r0, zr r1] h).bind (zback (runF G) d mX1_visit pc ls rest) else none := zK_call2 (d' := d) rfl rfl (Nat.le_of_ble_eq_true rfl)
theorem cK_X1_visit_J2_get {G : Nat → Option Nat} {d pc : Nat} {ls : zLs} {rest : List zV} {h : zH} {r0 : Option Nat} {x1 : Int32} : zK2 (runF G) d mX1_visit pc (zcallTo d mX1_visit 219 [zr r0, zi x1] h ls rest) = if zsum rest ≤ 8 then (callF G d mJ2_get [zr r0, zi x1] h).bind (zback (runF G) d mX1_visit pc ls rest) else none := zK_call2 (d' := d) rfl rfl (Nat.le_of_ble_eq_true rfl)
theorem cK_X1_isShop_X1_in {G : Nat → Option Nat} {d pc : Nat} {ls : zLs} {rest : List zV} {h : zH} {x0 : Int32} {x1 : Int32} {x2 : Int32} : zK2 (runF G) d mX1_isShop pc (zcallTo d mX1_isShop 6 [zi x0, zi x1, zi x2] h ls rest) = if zsum rest ≤ 8 then (callF G d mX1_in [zi x0, zi x1, zi x2] h).bind (zback (runF G) d mX1_isShop pc ls rest) else none := zK_call2 (d' := d) rfl rfl (Nat.le_of_ble_eq_true rfl)
theorem cK_X1_isShop_J2_size {G : Nat → Option Nat} {d pc : Nat} {ls : zLs} {rest : List zV} {h : zH} {r0 : Option Nat} : zK2 (runF G) d mX1_isShop pc (zcallTo d mX1_isShop 214 [zr r0] h ls rest) = if zsum rest ≤ 8 then (callF G d mJ2_size [zr r0] h).bind (zback (runF G) d mX1_isShop pc ls rest) else none := zK_call2 (d' := d) rfl rfl (Nat.le_of_ble_eq_true rfl)
theorem cK_X1_isBuyer_X1_in {G : Nat → Option Nat} {d pc : Nat} {ls : zLs} {rest : List zV} {h : zH} {x0 : Int32} {x1 : Int32} {x2 : Int32} : zK2 (runF G) d mX1_isBuyer pc (zcallTo d mX1_isBuyer 6 [zi x0, zi x1, zi x2] h ls rest) = if zsum rest ≤ 8 then (callF G d mX1_in [zi x0, zi x1, zi x2] h).bind (zback (runF G) d mX1_isBuyer pc ls rest) else none := zK_call2 (d' := d) rfl rfl (Nat.le_of_ble_eq_true rfl)
theorem cK_X1_isBuyer_J2_size {G : Nat → Option Nat} {d pc : Nat} {ls : zLs} {rest : List zV} {h : zH} {r0 : Option Nat} : zK2 (runF G) d mX1_isBuyer pc (zcallTo d mX1_isBuyer 214 [zr r0] h ls rest) = if zsum rest ≤ 8 then (callF G d mJ2_size [zr r0] h).bind (zback (runF G) d mX1_isBuyer pc ls rest) else none := zK_call2 (d' := d) rfl rfl (Nat.le_of_ble_eq_true rfl)
theorem cK_X1_appeal_X1_in {G : Nat → Option Nat} {d pc : Nat} {ls : zLs} {rest : List zV} {h : zH} {x0 : Int32} {x1 : Int32} {x2 : Int32} : zK2 (runF G) d mX1_appeal pc (zcallTo d mX1_appeal 6 [zi x0, zi x1, zi x2] h ls rest) = if zsum rest ≤ 8 then (callF G d mX1_in [zi x0, zi x1, zi x2] h).bind (zback (runF G) d mX1_appeal pc ls rest) else none := zK_call2 (d' := d) rfl rfl (Nat.le_of_ble_eq_true rfl)
theorem cK_X1_appeal_X1_changed {G : Nat → Option Nat} {d pc : Nat} {ls : zLs} {rest : List zV} {h : zH} {r0 : Option Nat} : zK2 (runF G) d mX1_appeal pc (zcallTo d mX1_appeal 7 [zr r0] h ls rest) = if zsum rest ≤ 8 then (callF G d mX1_changed [zr r0] h).bind (zback (runF G) d mX1_appeal pc ls rest) else none := zK_call2 (d' := d) rfl rfl (Nat.le_of_ble_eq_true rfl)
theorem cK_X1_appeal_X1_isVisit {G : Nat → Option Nat} {d pc : Nat} {ls : zLs} {rest : List zV} {h : zH} {r0 : Option Nat} {x1 : Int32} : zK2 (runF G) d mX1_appeal pc (zcallTo d mX1_appeal 17 [zr r0, zi x1] h ls rest) = if zsum rest ≤ 8 then (callF G d mX1_isVisit [zr r0, zi x1] h).bind (zback (runF G) d mX1_appeal pc ls rest) else none := zK_call2 (d' := d) rfl rfl (Nat.le_of_ble_eq_true rfl)
theorem cK_X1_appeal_X8_init {G : Nat → Option Nat} {d pc : Nat} {ls : zLs} {rest : List zV} {h : zH} {r0 : Option Nat} {r1 : Option Nat} {x2 : Int32} {x3 : Int32} : zK2 (runF G) d mX1_appeal pc (zcallTo d mX1_appeal 181 [zr r0, zr r1, zi x2, zi x3] h ls rest) = if zsum rest ≤ 8 then (callF G d mX8_init [zr r0, zr r1, zi x2, zi x3] h).bind (zback (runF G) d mX1_appeal pc ls rest) else none := zK_call2 (d' := d) rfl rfl (Nat.le_of_ble_eq_true rfl)
theorem cK_X1_appeal_J2_size {G : Nat → Option Nat} {d pc : Nat} {ls : zLs} {rest : List zV} {h : zH} {r0 : Option Nat} : zK2 (runF G) d mX1_appeal pc (zcallTo d mX1_appeal 214 [zr r0] h ls rest) = if zsum rest ≤ 8 then (callF G d mJ2_size [zr r0] h).bind (zback (runF G) d mX1_appeal pc ls rest) else none := zK_call2 (d' := d) rfl rfl (Nat.le_of_ble_eq_true rfl)
theorem cK_X1_appeal_J2_add {G : Nat → Option Nat} {d pc : Nat} {ls : zLs} {rest : List zV} {h : zH} {r0 : Option Nat} {r1 : Option Nat} : zK2 (runF G) d mX1_appeal pc (zcallTo d mX1_appeal 215 [zr r0, zr r1] h ls rest) = if zsum rest ≤ 8 then (callF G d mJ2_add [zr r0, zr r1] h).bind (zback (runF G) d mX1_appeal pc ls rest) else none := zK_call2 (d' := d) rfl rfl (Nat.le_of_ble_eq_true rfl)
theorem cK_X1_appeal_J2_get {G : Nat → Option Nat} {d pc : Nat} {ls : zLs} {rest : List zV} {h : zH} {r0 : Option Nat} {x1 : Int32} : zK2 (runF G) d mX1_appeal pc (zcallTo d mX1_appeal 219 [zr r0, zi x1] h ls rest) = if zsum rest ≤ 8 then (callF G d mJ2_get [zr r0, zi x1] h).bind (zback (runF G) d mX1_appeal pc ls rest) else none := zK_call2 (d' := d) rfl rfl (Nat.le_of_ble_eq_true rfl)
theorem cK_X1_isVisit_X1_in {G : Nat → Option Nat} {d pc : Nat} {ls : zLs} {rest : List zV} {h : zH} {x0 : Int32} {x1 : Int32} {x2 : Int32} : zK2 (runF G) d mX1_isVisit pc (zcallTo d mX1_isVisit 6 [zi x0, zi x1, zi x2] h ls rest) = if zsum rest ≤ 8 then (callF G d mX1_in [zi x0, zi x1, zi x2] h).bind (zback (runF G) d mX1_isVisit pc ls rest) else none := zK_call2 (d' := d) rfl rfl (Nat.le_of_ble_eq_true rfl)
theorem cK_X1_isVisit_J2_size {G : Nat → Option Nat} {d pc : Nat} {ls : zLs} {rest : List zV} {h : zH} {r0 : Option Nat} : zK2 (runF G) d mX1_isVisit pc (zcallTo d mX1_isVisit 214 [zr r0] h ls rest) = if zsum rest ≤ 8 then (callF G d mJ2_size [zr r0] h).bind (zback (runF G) d mX1_isVisit pc ls rest) else none := zK_call2 (d' := d) rfl rfl (Nat.le_of_ble_eq_true rfl)
theorem cK_X1_brief_X1_in {G : Nat → Option Nat} {d pc : Nat} {ls : zLs} {rest : List zV} {h : zH} {x0 : Int32} {x1 : Int32} {x2 : Int32} : zK2 (runF G) d mX1_brief pc (zcallTo d mX1_brief 6 [zi x0, zi x1, zi x2] h ls rest) = if zsum rest ≤ 8 then (callF G d mX1_in [zi x0, zi x1, zi x2] h).bind (zback (runF G) d mX1_brief pc ls rest) else none := zK_call2 (d' := d) rfl rfl (Nat.le_of_ble_eq_true rfl)
theorem cK_X1_brief_X1_changed {G : Nat → Option Nat} {d pc : Nat} {ls : zLs} {rest : List zV} {h : zH} {r0 : Option Nat} : zK2 (runF G) d mX1_brief pc (zcallTo d mX1_brief 7 [zr r0] h ls rest) = if zsum rest ≤ 8 then (callF G d mX1_changed [zr r0] h).bind (zback (runF G) d mX1_brief pc ls rest) else none := zK_call2 (d' := d) rfl rfl (Nat.le_of_ble_eq_true rfl)
theorem cK_X1_brief_X1_isDay {G : Nat → Option Nat} {d pc : Nat} {ls : zLs} {rest : List zV} {h : zH} {x0 : Int32} : zK2 (runF G) d mX1_brief pc (zcallTo d mX1_brief 20 [zi x0] h ls rest) = if zsum rest ≤ 8 then (callF G d mX1_isDay [zi x0] h).bind (zback (runF G) d mX1_brief pc ls rest) else none := zK_call2 (d' := d) rfl rfl (Nat.le_of_ble_eq_true rfl)
theorem cK_X1_brief_X2_begin {G : Nat → Option Nat} {d pc : Nat} {ls : zLs} {rest : List zV} {h : zH} {r0 : Option Nat} {r1 : Option Nat} {x2 : Int32} {x3 : Int32} {x4 : Int32} {x5 : Int32} : zK2 (runF G) d mX1_brief pc (zcallTo d mX1_brief 56 [zr r0, zr r1, zi x2, zi x3, zi x4, zi x5] h ls rest) = if zsum rest ≤ 8 then (callF G d mX2_begin [zr r0, zr r1, zi x2, zi x3, zi x4, zi x5] h).bind (zback (runF G) d mX1_brief pc ls rest) else none := zK_call2 (d' := d) rfl rfl (Nat.le_of_ble_eq_true rfl)
theorem cK_X1_brief_X2_whole {G : Nat → Option Nat} {d pc : Nat} {ls : zLs} {rest : List zV} {h : zH} {r0 : Option Nat} : zK2 (runF G) d mX1_brief pc (zcallTo d mX1_brief 61 [zr r0] h ls rest) = if zsum rest ≤ 8 then (callF G d mX2_whole [zr r0] h).bind (zback (runF G) d mX1_brief pc ls rest) else none := zK_call2 (d' := d) rfl rfl (Nat.le_of_ble_eq_true rfl)
theorem cK_X1_brief_J2_size {G : Nat → Option Nat} {d pc : Nat} {ls : zLs} {rest : List zV} {h : zH} {r0 : Option Nat} : zK2 (runF G) d mX1_brief pc (zcallTo d mX1_brief 214 [zr r0] h ls rest) = if zsum rest ≤ 8 then (callF G d mJ2_size [zr r0] h).bind (zback (runF G) d mX1_brief pc ls rest) else none := zK_call2 (d' := d) rfl rfl (Nat.le_of_ble_eq_true rfl)
theorem cK_X1_brief_J2_add {G : Nat → Option Nat} {d pc : Nat} {ls : zLs} {rest : List zV} {h : zH} {r0 : Option Nat} {r1 : Option Nat} : zK2 (runF G) d mX1_brief pc (zcallTo d mX1_brief 215 [zr r0, zr r1] h ls rest) = if zsum rest ≤ 8 then (callF G d mJ2_add [zr r0, zr r1] h).bind (zback (runF G) d mX1_brief pc ls rest) else none := zK_call2 (d' := d) rfl rfl (Nat.le_of_ble_eq_true rfl)
theorem cK_X1_isDay_X1_in {G : Nat → Option Nat} {d pc : Nat} {ls : zLs} {rest : List zV} {h : zH} {x0 : Int32} {x1 : Int32} {x2 : Int32} : zK2 (runF G) d mX1_isDay pc (zcallTo d mX1_isDay 6 [zi x0, zi x1, zi x2] h ls rest) = if zsum rest ≤ 8 then (callF G d mX1_in [zi x0, zi x1, zi x2] h).bind (zback (runF G) d mX1_isDay pc ls rest) else none := zK_call2 (d' := d) rfl rfl (Nat.le_of_ble_eq_true rfl)
theorem cK_X1_fewest_X1_isBuyer {G : Nat → Option Nat} {d pc : Nat} {ls : zLs} {rest : List zV} {h : zH} {r0 : Option Nat} {x1 : Int32} : zK2 (runF G) d mX1_fewest pc (zcallTo d mX1_fewest 15 [zr r0, zi x1] h ls rest) = if zsum rest ≤ 8 then (callF G d mX1_isBuyer [zr r0, zi x1] h).bind (zback (runF G) d mX1_fewest pc ls rest) else none := zK_call2 (d' := d) rfl rfl (Nat.le_of_ble_eq_true rfl)
theorem cK_X1_fewest_X1_isDay {G : Nat → Option Nat} {d pc : Nat} {ls : zLs} {rest : List zV} {h : zH} {x0 : Int32} : zK2 (runF G) d mX1_fewest pc (zcallTo d mX1_fewest 20 [zi x0] h ls rest) = if zsum rest ≤ 8 then (callF G d mX1_isDay [zi x0] h).bind (zback (runF G) d mX1_fewest pc ls rest) else none := zK_call2 (d' := d) rfl rfl (Nat.le_of_ble_eq_true rfl)
theorem cK_X1_fewest_X1_works {G : Nat → Option Nat} {d pc : Nat} {ls : zLs} {rest : List zV} {h : zH} {r0 : Option Nat} : zK2 (runF G) d mX1_fewest pc (zcallTo d mX1_fewest 22 [zr r0] h ls rest) = if zsum rest ≤ 8 then (callF G d mX1_works [zr r0] h).bind (zback (runF G) d mX1_fewest pc ls rest) else none := zK_call2 (d' := d) rfl rfl (Nat.le_of_ble_eq_true rfl)
theorem cK_X1_fewest_X1_seeks {G : Nat → Option Nat} {d pc : Nat} {ls : zLs} {rest : List zV} {h : zH} {r0 : Option Nat} {x1 : Int32} {x2 : Int32} {x3 : Int32} : zK2 (runF G) d mX1_fewest pc (zcallTo d mX1_fewest 27 [zr r0, zi x1, zi x2, zi x3] h ls rest) = if zsum rest ≤ 8 then (callF G d mX1_seeks [zr r0, zi x1, zi x2, zi x3] h).bind (zback (runF G) d mX1_fewest pc ls rest) else none := zK_call2 (d' := d) rfl rfl (Nat.le_of_ble_eq_true rfl)
theorem cK_X1_works_X1_sees {G : Nat → Option Nat} {d pc : Nat} {ls : zLs} {rest : List zV} {h : zH} {r0 : Option Nat} {r1 : Option Nat} : zK2 (runF G) d mX1_works pc (zcallTo d mX1_works 23 [zr r0, zr r1] h ls rest) = if zsum rest ≤ 8 then (callF G d mX1_sees [zr r0, zr r1] h).bind (zback (runF G) d mX1_works pc ls rest) else none := zK_call2 (d' := d) rfl rfl (Nat.le_of_ble_eq_true rfl)
theorem cK_X1_works_X1_scores {G : Nat → Option Nat} {d pc : Nat} {ls : zLs} {rest : List zV} {h : zH} {r0 : Option Nat} {r1 : Option Nat} : zK2 (runF G) d mX1_works pc (zcallTo d mX1_works 25 [zr r0, zr r1] h ls rest) = if zsum rest ≤ 8 then (callF G d mX1_scores [zr r0, zr r1] h).bind (zback (runF G) d mX1_works pc ls rest) else none := zK_call2 (d' := d) rfl rfl (Nat.le_of_ble_eq_true rfl)
theorem cK_X1_works_X1_isFirstOf {G : Nat → Option Nat} {d pc : Nat} {ls : zLs} {rest : List zV} {h : zH} {r0 : Option Nat} {r1 : Option Nat} : zK2 (runF G) d mX1_works pc (zcallTo d mX1_works 26 [zr r0, zr r1] h ls rest) = if zsum rest ≤ 8 then (callF G d mX1_isFirstOf [zr r0, zr r1] h).bind (zback (runF G) d mX1_works pc ls rest) else none := zK_call2 (d' := d) rfl rfl (Nat.le_of_ble_eq_true rfl)
theorem cK_X1_works_X1_seeks {G : Nat → Option Nat} {d pc : Nat} {ls : zLs} {rest : List zV} {h : zH} {r0 : Option Nat} {x1 : Int32} {x2 : Int32} {x3 : Int32} : zK2 (runF G) d mX1_works pc (zcallTo d mX1_works 27 [zr r0, zi x1, zi x2, zi x3] h ls rest) = if zsum rest ≤ 8 then (callF G d mX1_seeks [zr r0, zi x1, zi x2, zi x3] h).bind (zback (runF G) d mX1_works pc ls rest) else none := zK_call2 (d' := d) rfl rfl (Nat.le_of_ble_eq_true rfl)
theorem cK_X1_works_X1_leans {G : Nat → Option Nat} {d pc : Nat} {ls : zLs} {rest : List zV} {h : zH} {r0 : Option Nat} : zK2 (runF G) d mX1_works pc (zcallTo d mX1_works 29 [zr r0] h ls rest) = if zsum rest ≤ 8 then (callF G d mX1_leans [zr r0] h).bind (zback (runF G) d mX1_works pc ls rest) else none := zK_call2 (d' := d) rfl rfl (Nat.le_of_ble_eq_true rfl)
theorem cK_X1_works_J2_size {G : Nat → Option Nat} {d pc : Nat} {ls : zLs} {rest : List zV} {h : zH} {r0 : Option Nat} : zK2 (runF G) d mX1_works pc (zcallTo d mX1_works 214 [zr r0] h ls rest) = if zsum rest ≤ 8 then (callF G d mJ2_size [zr r0] h).bind (zback (runF G) d mX1_works pc ls rest) else none := zK_call2 (d' := d) rfl rfl (Nat.le_of_ble_eq_true rfl)
theorem cK_X1_works_J2_get {G : Nat → Option Nat} {d pc : Nat} {ls : zLs} {rest : List zV} {h : zH} {r0 : Option Nat} {x1 : Int32} : zK2 (runF G) d mX1_works pc (zcallTo d mX1_works 219 [zr r0, zi x1] h ls rest) = if zsum rest ≤ 8 then (callF G d mJ2_get [zr r0, zi x1] h).bind (zback (runF G) d mX1_works pc ls rest) else none := zK_call2 (d' := d) rfl rfl (Nat.le_of_ble_eq_true rfl)
theorem cK_X1_works_J2_clear {G : Nat → Option Nat} {d pc : Nat} {ls : zLs} {rest : List zV} {h : zH} {r0 : Option Nat} : zK2 (runF G) d mX1_works pc (zcallTo d mX1_works 224 [zr r0] h ls rest) = if zsum rest ≤ 8 then (callF G d mJ2_clear [zr r0] h).bind (zback (runF G) d mX1_works pc ls rest) else none := zK_call2 (d' := d) rfl rfl (Nat.le_of_ble_eq_true rfl)
theorem cK_X1_sees_X1_day {G : Nat → Option Nat} {d pc : Nat} {ls : zLs} {rest : List zV} {h : zH} {r0 : Option Nat} : zK2 (runF G) d mX1_sees pc (zcallTo d mX1_sees 24 [zr r0] h ls rest) = if zsum rest ≤ 8 then (callF G d mX1_day [zr r0] h).bind (zback (runF G) d mX1_sees pc ls rest) else none := zK_call2 (d' := d) rfl rfl (Nat.le_of_ble_eq_true rfl)
theorem cK_X1_sees_X7_canBeAlone {G : Nat → Option Nat} {d pc : Nat} {ls : zLs} {rest : List zV} {h : zH} {r0 : Option Nat} : zK2 (runF G) d mX1_sees pc (zcallTo d mX1_sees 175 [zr r0] h ls rest) = if zsum rest ≤ 8 then (callF G d mX7_canBeAlone [zr r0] h).bind (zback (runF G) d mX1_sees pc ls rest) else none := zK_call2 (d' := d) rfl rfl (Nat.le_of_ble_eq_true rfl)
theorem cK_X1_sees_X7_isAheadOf {G : Nat → Option Nat} {d pc : Nat} {ls : zLs} {rest : List zV} {h : zH} {r0 : Option Nat} {r1 : Option Nat} : zK2 (runF G) d mX1_sees pc (zcallTo d mX1_sees 177 [zr r0, zr r1] h ls rest) = if zsum rest ≤ 8 then (callF G d mX7_isAheadOf [zr r0, zr r1] h).bind (zback (runF G) d mX1_sees pc ls rest) else none := zK_call2 (d' := d) rfl rfl (Nat.le_of_ble_eq_true rfl)
theorem cK_X1_sees_J2_size {G : Nat → Option Nat} {d pc : Nat} {ls : zLs} {rest : List zV} {h : zH} {r0 : Option Nat} : zK2 (runF G) d mX1_sees pc (zcallTo d mX1_sees 214 [zr r0] h ls rest) = if zsum rest ≤ 8 then (callF G d mJ2_size [zr r0] h).bind (zback (runF G) d mX1_sees pc ls rest) else none := zK_call2 (d' := d) rfl rfl (Nat.le_of_ble_eq_true rfl)
theorem cK_X1_sees_J2_get {G : Nat → Option Nat} {d pc : Nat} {ls : zLs} {rest : List zV} {h : zH} {r0 : Option Nat} {x1 : Int32} : zK2 (runF G) d mX1_sees pc (zcallTo d mX1_sees 219 [zr r0, zi x1] h ls rest) = if zsum rest ≤ 8 then (callF G d mJ2_get [zr r0, zi x1] h).bind (zback (runF G) d mX1_sees pc ls rest) else none := zK_call2 (d' := d) rfl rfl (Nat.le_of_ble_eq_true rfl)
theorem cK_X1_sees_J2_add_3 {G : Nat → Option Nat} {d pc : Nat} {ls : zLs} {rest : List zV} {h : zH} {r0 : Option Nat} {x1 : Int32} {r2 : Option Nat} : zK2 (runF G) d mX1_sees pc (zcallTo d mX1_sees 225 [zr r0, zi x1, zr r2] h ls rest) = if zsum rest ≤ 8 then (callF G d mJ2_add_3 [zr r0, zi x1, zr r2] h).bind (zback (runF G) d mX1_sees pc ls rest) else none := zK_call2 (d' := d) rfl rfl (Nat.le_of_ble_eq_true rfl)
theorem cK_X1_scores_X9_score {G : Nat → Option Nat} {d pc : Nat} {ls : zLs} {rest : List zV} {h : zH} {r0 : Option Nat} {r1 : Option Nat} {r2 : Option Nat} {x3 : Int32} : zK2 (runF G) d mX1_scores pc (zcallTo d mX1_scores 183 [zr r0, zr r1, zr r2, zi x3] h ls rest) = if zsum rest ≤ 8 then (callF G d mX9_score [zr r0, zr r1, zr r2, zi x3] h).bind (zback (runF G) d mX1_scores pc ls rest) else none := zK_call2 (d' := d) rfl rfl (Nat.le_of_ble_eq_true rfl)
theorem cK_X1_scores_X9_bonus {G : Nat → Option Nat} {d pc : Nat} {ls : zLs} {rest : List zV} {h : zH} {r0 : Option Nat} {r1 : Option Nat} {r2 : Option Nat} {x3 : Int32} : zK2 (runF G) d mX1_scores pc (zcallTo d mX1_scores 185 [zr r0, zr r1, zr r2, zi x3] h ls rest) = if zsum rest ≤ 8 then (callF G d mX9_bonus [zr r0, zr r1, zr r2, zi x3] h).bind (zback (runF G) d mX1_scores pc ls rest) else none := zK_call2 (d' := d) rfl rfl (Nat.le_of_ble_eq_true rfl)
theorem cK_X1_scores_J2_get {G : Nat → Option Nat} {d pc : Nat} {ls : zLs} {rest : List zV} {h : zH} {r0 : Option Nat} {x1 : Int32} : zK2 (runF G) d mX1_scores pc (zcallTo d mX1_scores 219 [zr r0, zi x1] h ls rest) = if zsum rest ≤ 8 then (callF G d mJ2_get [zr r0, zi x1] h).bind (zback (runF G) d mX1_scores pc ls rest) else none := zK_call2 (d' := d) rfl rfl (Nat.le_of_ble_eq_true rfl)
theorem cK_X1_isFirstOf_J2_get {G : Nat → Option Nat} {d pc : Nat} {ls : zLs} {rest : List zV} {h : zH} {r0 : Option Nat} {x1 : Int32} : zK2 (runF G) d mX1_isFirstOf pc (zcallTo d mX1_isFirstOf 219 [zr r0, zi x1] h ls rest) = if zsum rest ≤ 8 then (callF G d mJ2_get [zr r0, zi x1] h).bind (zback (runF G) d mX1_isFirstOf pc ls rest) else none := zK_call2 (d' := d) rfl rfl (Nat.le_of_ble_eq_true rfl)
theorem cK_X1_seeks_X1_parts {G : Nat → Option Nat} {d pc : Nat} {ls : zLs} {rest : List zV} {h : zH} {r0 : Option Nat} {x1 : Int32} : zK2 (runF G) d mX1_seeks pc (zcallTo d mX1_seeks 28 [zr r0, zi x1] h ls rest) = if zsum rest ≤ 8 then (callF G d mX1_parts [zr r0, zi x1] h).bind (zback (runF G) d mX1_seeks pc ls rest) else none := zK_call2 (d' := d) rfl rfl (Nat.le_of_ble_eq_true rfl)
theorem cK_X1_seeks_X7_quarrels {G : Nat → Option Nat} {d pc : Nat} {ls : zLs} {rest : List zV} {h : zH} {r0 : Option Nat} {r1 : Option Nat} {x2 : Int32} : zK2 (runF G) d mX1_seeks pc (zcallTo d mX1_seeks 178 [zr r0, zr r1, zi x2] h ls rest) = if zsum rest ≤ 8 then (callF G d mX7_quarrels [zr r0, zr r1, zi x2] h).bind (zback (runF G) d mX1_seeks pc ls rest) else none := zK_call2 (d' := d) rfl rfl (Nat.le_of_ble_eq_true rfl)
theorem cK_X1_seeks_J2_size {G : Nat → Option Nat} {d pc : Nat} {ls : zLs} {rest : List zV} {h : zH} {r0 : Option Nat} : zK2 (runF G) d mX1_seeks pc (zcallTo d mX1_seeks 214 [zr r0] h ls rest) = if zsum rest ≤ 8 then (callF G d mJ2_size [zr r0] h).bind (zback (runF G) d mX1_seeks pc ls rest) else none := zK_call2 (d' := d) rfl rfl (Nat.le_of_ble_eq_true rfl)
theorem cK_X1_seeks_J2_get {G : Nat → Option Nat} {d pc : Nat} {ls : zLs} {rest : List zV} {h : zH} {r0 : Option Nat} {x1 : Int32} : zK2 (runF G) d mX1_seeks pc (zcallTo d mX1_seeks 219 [zr r0, zi x1] h ls rest) = if zsum rest ≤ 8 then (callF G d mJ2_get [zr r0, zi x1] h).bind (zback (runF G) d mX1_seeks pc ls rest) else none := zK_call2 (d' := d) rfl rfl (Nat.le_of_ble_eq_true rfl)
theorem cK_X1_seeks_J17_bitCount {G : Nat → Option Nat} {d pc : Nat} {ls : zLs} {rest : List zV} {h : zH} {x0 : Int32} : zK2 (runF G) d mX1_seeks pc (zcallTo d mX1_seeks 302 [zi x0] h ls rest) = if zsum rest ≤ 8 then (callF G d mJ17_bitCount [zi x0] h).bind (zback (runF G) d mX1_seeks pc ls rest) else none := zK_call2 (d' := d) rfl rfl (Nat.le_of_ble_eq_true rfl)
theorem cK_X1_leans_X7_meets {G : Nat → Option Nat} {d pc : Nat} {ls : zLs} {rest : List zV} {h : zH} {r0 : Option Nat} {r1 : Option Nat} : zK2 (runF G) d mX1_leans pc (zcallTo d mX1_leans 179 [zr r0, zr r1] h ls rest) = if zsum rest ≤ 8 then (callF G d mX7_meets [zr r0, zr r1] h).bind (zback (runF G) d mX1_leans pc ls rest) else none := zK_call2 (d' := d) rfl rfl (Nat.le_of_ble_eq_true rfl)
theorem cK_X1_leans_J2_size {G : Nat → Option Nat} {d pc : Nat} {ls : zLs} {rest : List zV} {h : zH} {r0 : Option Nat} : zK2 (runF G) d mX1_leans pc (zcallTo d mX1_leans 214 [zr r0] h ls rest) = if zsum rest ≤ 8 then (callF G d mJ2_size [zr r0] h).bind (zback (runF G) d mX1_leans pc ls rest) else none := zK_call2 (d' := d) rfl rfl (Nat.le_of_ble_eq_true rfl)
theorem cK_X1_leans_J2_get {G : Nat → Option Nat} {d pc : Nat} {ls : zLs} {rest : List zV} {h : zH} {r0 : Option Nat} {x1 : Int32} : zK2 (runF G) d mX1_leans pc (zcallTo d mX1_leans 219 [zr r0, zi x1] h ls rest) = if zsum rest ≤ 8 then (callF G d mJ2_get [zr r0, zi x1] h).bind (zback (runF G) d mX1_leans pc ls rest) else none := zK_call2 (d' := d) rfl rfl (Nat.le_of_ble_eq_true rfl)
theorem cK_X1_set_X1_isBuyer {G : Nat → Option Nat} {d pc : Nat} {ls : zLs} {rest : List zV} {h : zH} {r0 : Option Nat} {x1 : Int32} : zK2 (runF G) d mX1_set pc (zcallTo d mX1_set 15 [zr r0, zi x1] h ls rest) = if zsum rest ≤ 8 then (callF G d mX1_isBuyer [zr r0, zi x1] h).bind (zback (runF G) d mX1_set pc ls rest) else none := zK_call2 (d' := d) rfl rfl (Nat.le_of_ble_eq_true rfl)
theorem cK_X1_set_X1_isDay {G : Nat → Option Nat} {d pc : Nat} {ls : zLs} {rest : List zV} {h : zH} {x0 : Int32} : zK2 (runF G) d mX1_set pc (zcallTo d mX1_set 20 [zi x0] h ls rest) = if zsum rest ≤ 8 then (callF G d mX1_isDay [zi x0] h).bind (zback (runF G) d mX1_set pc ls rest) else none := zK_call2 (d' := d) rfl rfl (Nat.le_of_ble_eq_true rfl)
theorem cK_X1_set_X1_works {G : Nat → Option Nat} {d pc : Nat} {ls : zLs} {rest : List zV} {h : zH} {r0 : Option Nat} : zK2 (runF G) d mX1_set pc (zcallTo d mX1_set 22 [zr r0] h ls rest) = if zsum rest ≤ 8 then (callF G d mX1_works [zr r0] h).bind (zback (runF G) d mX1_set pc ls rest) else none := zK_call2 (d' := d) rfl rfl (Nat.le_of_ble_eq_true rfl)
theorem cK_X1_set_X1_seeks {G : Nat → Option Nat} {d pc : Nat} {ls : zLs} {rest : List zV} {h : zH} {r0 : Option Nat} {x1 : Int32} {x2 : Int32} {x3 : Int32} : zK2 (runF G) d mX1_set pc (zcallTo d mX1_set 27 [zr r0, zi x1, zi x2, zi x3] h ls rest) = if zsum rest ≤ 8 then (callF G d mX1_seeks [zr r0, zi x1, zi x2, zi x3] h).bind (zback (runF G) d mX1_set pc ls rest) else none := zK_call2 (d' := d) rfl rfl (Nat.le_of_ble_eq_true rfl)
theorem cK_X1_meetings_X1_isBuyer {G : Nat → Option Nat} {d pc : Nat} {ls : zLs} {rest : List zV} {h : zH} {r0 : Option Nat} {x1 : Int32} : zK2 (runF G) d mX1_meetings pc (zcallTo d mX1_meetings 15 [zr r0, zi x1] h ls rest) = if zsum rest ≤ 8 then (callF G d mX1_isBuyer [zr r0, zi x1] h).bind (zback (runF G) d mX1_meetings pc ls rest) else none := zK_call2 (d' := d) rfl rfl (Nat.le_of_ble_eq_true rfl)
theorem cK_X1_meetings_X1_works {G : Nat → Option Nat} {d pc : Nat} {ls : zLs} {rest : List zV} {h : zH} {r0 : Option Nat} : zK2 (runF G) d mX1_meetings pc (zcallTo d mX1_meetings 22 [zr r0] h ls rest) = if zsum rest ≤ 8 then (callF G d mX1_works [zr r0] h).bind (zback (runF G) d mX1_meetings pc ls rest) else none := zK_call2 (d' := d) rfl rfl (Nat.le_of_ble_eq_true rfl)
theorem cK_X1_meetings_X7_meets {G : Nat → Option Nat} {d pc : Nat} {ls : zLs} {rest : List zV} {h : zH} {r0 : Option Nat} {r1 : Option Nat} : zK2 (runF G) d mX1_meetings pc (zcallTo d mX1_meetings 179 [zr r0, zr r1] h ls rest) = if zsum rest ≤ 8 then (callF G d mX7_meets [zr r0, zr r1] h).bind (zback (runF G) d mX1_meetings pc ls rest) else none := zK_call2 (d' := d) rfl rfl (Nat.le_of_ble_eq_true rfl)
theorem cK_X1_meetings_J2_size {G : Nat → Option Nat} {d pc : Nat} {ls : zLs} {rest : List zV} {h : zH} {r0 : Option Nat} : zK2 (runF G) d mX1_meetings pc (zcallTo d mX1_meetings 214 [zr r0] h ls rest) = if zsum rest ≤ 8 then (callF G d mJ2_size [zr r0] h).bind (zback (runF G) d mX1_meetings pc ls rest) else none := zK_call2 (d' := d) rfl rfl (Nat.le_of_ble_eq_true rfl)
theorem cK_X1_meetings_J2_get {G : Nat → Option Nat} {d pc : Nat} {ls : zLs} {rest : List zV} {h : zH} {r0 : Option Nat} {x1 : Int32} : zK2 (runF G) d mX1_meetings pc (zcallTo d mX1_meetings 219 [zr r0, zi x1] h ls rest) = if zsum rest ≤ 8 then (callF G d mJ2_get [zr r0, zi x1] h).bind (zback (runF G) d mX1_meetings pc ls rest) else none := zK_call2 (d' := d) rfl rfl (Nat.le_of_ble_eq_true rfl)
theorem cK_X1_doubt_X1_isShop {G : Nat → Option Nat} {d pc : Nat} {ls : zLs} {rest : List zV} {h : zH} {r0 : Option Nat} {x1 : Int32} : zK2 (runF G) d mX1_doubt pc (zcallTo d mX1_doubt 14 [zr r0, zi x1] h ls rest) = if zsum rest ≤ 8 then (callF G d mX1_isShop [zr r0, zi x1] h).bind (zback (runF G) d mX1_doubt pc ls rest) else none := zK_call2 (d' := d) rfl rfl (Nat.le_of_ble_eq_true rfl)
theorem cK_X1_doubt_X1_works {G : Nat → Option Nat} {d pc : Nat} {ls : zLs} {rest : List zV} {h : zH} {r0 : Option Nat} : zK2 (runF G) d mX1_doubt pc (zcallTo d mX1_doubt 22 [zr r0] h ls rest) = if zsum rest ≤ 8 then (callF G d mX1_works [zr r0] h).bind (zback (runF G) d mX1_doubt pc ls rest) else none := zK_call2 (d' := d) rfl rfl (Nat.le_of_ble_eq_true rfl)
theorem cK_X1_doubt_X1_areDays {G : Nat → Option Nat} {d pc : Nat} {ls : zLs} {rest : List zV} {h : zH} {x0 : Int32} {x1 : Int32} : zK2 (runF G) d mX1_doubt pc (zcallTo d mX1_doubt 33 [zi x0, zi x1] h ls rest) = if zsum rest ≤ 8 then (callF G d mX1_areDays [zi x0, zi x1] h).bind (zback (runF G) d mX1_doubt pc ls rest) else none := zK_call2 (d' := d) rfl rfl (Nat.le_of_ble_eq_true rfl)
theorem cK_X1_doubt_X1_meanOf {G : Nat → Option Nat} {d pc : Nat} {ls : zLs} {rest : List zV} {h : zH} {r0 : Option Nat} {x1 : Int32} {x2 : Int32} {x3 : Int32} : zK2 (runF G) d mX1_doubt pc (zcallTo d mX1_doubt 34 [zr r0, zi x1, zi x2, zi x3] h ls rest) = if zsum rest ≤ 8 then (callF G d mX1_meanOf [zr r0, zi x1, zi x2, zi x3] h).bind (zback (runF G) d mX1_doubt pc ls rest) else none := zK_call2 (d' := d) rfl rfl (Nat.le_of_ble_eq_true rfl)
theorem cK_X1_areDays_X1_isDay {G : Nat → Option Nat} {d pc : Nat} {ls : zLs} {rest : List zV} {h : zH} {x0 : Int32} : zK2 (runF G) d mX1_areDays pc (zcallTo d mX1_areDays 20 [zi x0] h ls rest) = if zsum rest ≤ 8 then (callF G d mX1_isDay [zi x0] h).bind (zback (runF G) d mX1_areDays pc ls rest) else none := zK_call2 (d' := d) rfl rfl (Nat.le_of_ble_eq_true rfl)
theorem cK_X1_meanOf_X1_in {G : Nat → Option Nat} {d pc : Nat} {ls : zLs} {rest : List zV} {h : zH} {x0 : Int32} {x1 : Int32} {x2 : Int32} : zK2 (runF G) d mX1_meanOf pc (zcallTo d mX1_meanOf 6 [zi x0, zi x1, zi x2] h ls rest) = if zsum rest ≤ 8 then (callF G d mX1_in [zi x0, zi x1, zi x2] h).bind (zback (runF G) d mX1_meanOf pc ls rest) else none := zK_call2 (d' := d) rfl rfl (Nat.le_of_ble_eq_true rfl)
theorem cK_X1_meanOf_X1_fair {G : Nat → Option Nat} {d pc : Nat} {ls : zLs} {rest : List zV} {h : zH} {r0 : Option Nat} {r1 : Option Nat} : zK2 (runF G) d mX1_meanOf pc (zcallTo d mX1_meanOf 35 [zr r0, zr r1] h ls rest) = if zsum rest ≤ 8 then (callF G d mX1_fair [zr r0, zr r1] h).bind (zback (runF G) d mX1_meanOf pc ls rest) else none := zK_call2 (d' := d) rfl rfl (Nat.le_of_ble_eq_true rfl)
theorem cK_X1_meanOf_X7_counts {G : Nat → Option Nat} {d pc : Nat} {ls : zLs} {rest : List zV} {h : zH} {r0 : Option Nat} : zK2 (runF G) d mX1_meanOf pc (zcallTo d mX1_meanOf 180 [zr r0] h ls rest) = if zsum rest ≤ 8 then (callF G d mX7_counts [zr r0] h).bind (zback (runF G) d mX1_meanOf pc ls rest) else none := zK_call2 (d' := d) rfl rfl (Nat.le_of_ble_eq_true rfl)
theorem cK_X1_meanOf_J2_size {G : Nat → Option Nat} {d pc : Nat} {ls : zLs} {rest : List zV} {h : zH} {r0 : Option Nat} : zK2 (runF G) d mX1_meanOf pc (zcallTo d mX1_meanOf 214 [zr r0] h ls rest) = if zsum rest ≤ 8 then (callF G d mJ2_size [zr r0] h).bind (zback (runF G) d mX1_meanOf pc ls rest) else none := zK_call2 (d' := d) rfl rfl (Nat.le_of_ble_eq_true rfl)
theorem cK_X1_meanOf_J2_get {G : Nat → Option Nat} {d pc : Nat} {ls : zLs} {rest : List zV} {h : zH} {r0 : Option Nat} {x1 : Int32} : zK2 (runF G) d mX1_meanOf pc (zcallTo d mX1_meanOf 219 [zr r0, zi x1] h ls rest) = if zsum rest ≤ 8 then (callF G d mJ2_get [zr r0, zi x1] h).bind (zback (runF G) d mX1_meanOf pc ls rest) else none := zK_call2 (d' := d) rfl rfl (Nat.le_of_ble_eq_true rfl)
theorem cK_X1_apart_X1_isShop {G : Nat → Option Nat} {d pc : Nat} {ls : zLs} {rest : List zV} {h : zH} {r0 : Option Nat} {x1 : Int32} : zK2 (runF G) d mX1_apart pc (zcallTo d mX1_apart 14 [zr r0, zi x1] h ls rest) = if zsum rest ≤ 8 then (callF G d mX1_isShop [zr r0, zi x1] h).bind (zback (runF G) d mX1_apart pc ls rest) else none := zK_call2 (d' := d) rfl rfl (Nat.le_of_ble_eq_true rfl)
theorem cK_X1_apart_X1_works {G : Nat → Option Nat} {d pc : Nat} {ls : zLs} {rest : List zV} {h : zH} {r0 : Option Nat} : zK2 (runF G) d mX1_apart pc (zcallTo d mX1_apart 22 [zr r0] h ls rest) = if zsum rest ≤ 8 then (callF G d mX1_works [zr r0] h).bind (zback (runF G) d mX1_apart pc ls rest) else none := zK_call2 (d' := d) rfl rfl (Nat.le_of_ble_eq_true rfl)
theorem cK_X1_apart_X1_areDays {G : Nat → Option Nat} {d pc : Nat} {ls : zLs} {rest : List zV} {h : zH} {x0 : Int32} {x1 : Int32} : zK2 (runF G) d mX1_apart pc (zcallTo d mX1_apart 33 [zi x0, zi x1] h ls rest) = if zsum rest ≤ 8 then (callF G d mX1_areDays [zi x0, zi x1] h).bind (zback (runF G) d mX1_apart pc ls rest) else none := zK_call2 (d' := d) rfl rfl (Nat.le_of_ble_eq_true rfl)
theorem cK_X1_apart_X1_meanOf {G : Nat → Option Nat} {d pc : Nat} {ls : zLs} {rest : List zV} {h : zH} {r0 : Option Nat} {x1 : Int32} {x2 : Int32} {x3 : Int32} : zK2 (runF G) d mX1_apart pc (zcallTo d mX1_apart 34 [zr r0, zi x1, zi x2, zi x3] h ls rest) = if zsum rest ≤ 8 then (callF G d mX1_meanOf [zr r0, zi x1, zi x2, zi x3] h).bind (zback (runF G) d mX1_apart pc ls rest) else none := zK_call2 (d' := d) rfl rfl (Nat.le_of_ble_eq_true rfl)
theorem cK_X1_apart_J4_abs {G : Nat → Option Nat} {d pc : Nat} {ls : zLs} {rest : List zV} {h : zH} {x0 : Int32} : zK2 (runF G) d mX1_apart pc (zcallTo d mX1_apart 231 [zi x0] h ls rest) = if zsum rest ≤ 8 then (callF G d mJ4_abs [zi x0] h).bind (zback (runF G) d mX1_apart pc ls rest) else none := zK_call2 (d' := d) rfl rfl (Nat.le_of_ble_eq_true rfl)
theorem cK_X1_order_X1_in {G : Nat → Option Nat} {d pc : Nat} {ls : zLs} {rest : List zV} {h : zH} {x0 : Int32} {x1 : Int32} {x2 : Int32} : zK2 (runF G) d mX1_order pc (zcallTo d mX1_order 6 [zi x0, zi x1, zi x2] h ls rest) = if zsum rest ≤ 8 then (callF G d mX1_in [zi x0, zi x1, zi x2] h).bind (zback (runF G) d mX1_order pc ls rest) else none := zK_call2 (d' := d) rfl rfl (Nat.le_of_ble_eq_true rfl)
theorem cK_X1_order_X1_works {G : Nat → Option Nat} {d pc : Nat} {ls : zLs} {rest : List zV} {h : zH} {r0 : Option Nat} : zK2 (runF G) d mX1_order pc (zcallTo d mX1_order 22 [zr r0] h ls rest) = if zsum rest ≤ 8 then (callF G d mX1_works [zr r0] h).bind (zback (runF G) d mX1_order pc ls rest) else none := zK_call2 (d' := d) rfl rfl (Nat.le_of_ble_eq_true rfl)
theorem cK_X1_order_X1_areDays {G : Nat → Option Nat} {d pc : Nat} {ls : zLs} {rest : List zV} {h : zH} {x0 : Int32} {x1 : Int32} : zK2 (runF G) d mX1_order pc (zcallTo d mX1_order 33 [zi x0, zi x1] h ls rest) = if zsum rest ≤ 8 then (callF G d mX1_areDays [zi x0, zi x1] h).bind (zback (runF G) d mX1_order pc ls rest) else none := zK_call2 (d' := d) rfl rfl (Nat.le_of_ble_eq_true rfl)
theorem cK_X1_order_X1_meanOf {G : Nat → Option Nat} {d pc : Nat} {ls : zLs} {rest : List zV} {h : zH} {r0 : Option Nat} {x1 : Int32} {x2 : Int32} {x3 : Int32} : zK2 (runF G) d mX1_order pc (zcallTo d mX1_order 34 [zr r0, zi x1, zi x2, zi x3] h ls rest) = if zsum rest ≤ 8 then (callF G d mX1_meanOf [zr r0, zi x1, zi x2, zi x3] h).bind (zback (runF G) d mX1_order pc ls rest) else none := zK_call2 (d' := d) rfl rfl (Nat.le_of_ble_eq_true rfl)
theorem cK_X1_order_X1_apart {G : Nat → Option Nat} {d pc : Nat} {ls : zLs} {rest : List zV} {h : zH} {r0 : Option Nat} {x1 : Int32} {x2 : Int32} {x3 : Int32} {x4 : Int32} : zK2 (runF G) d mX1_order pc (zcallTo d mX1_order 36 [zr r0, zi x1, zi x2, zi x3, zi x4] h ls rest) = if zsum rest ≤ 8 then (callF G d mX1_apart [zr r0, zi x1, zi x2, zi x3, zi x4] h).bind (zback (runF G) d mX1_order pc ls rest) else none := zK_call2 (d' := d) rfl rfl (Nat.le_of_ble_eq_true rfl)
theorem cK_X1_order_X1_row {G : Nat → Option Nat} {d pc : Nat} {ls : zLs} {rest : List zV} {h : zH} {r0 : Option Nat} {x1 : Int32} {x2 : Int32} {x3 : Int32} {x4 : Int32} : zK2 (runF G) d mX1_order pc (zcallTo d mX1_order 38 [zr r0, zi x1, zi x2, zi x3, zi x4] h ls rest) = if zsum rest ≤ 8 then (callF G d mX1_row [zr r0, zi x1, zi x2, zi x3, zi x4] h).bind (zback (runF G) d mX1_order pc ls rest) else none := zK_call2 (d' := d) rfl rfl (Nat.le_of_ble_eq_true rfl)
theorem cK_X1_order_J2_size {G : Nat → Option Nat} {d pc : Nat} {ls : zLs} {rest : List zV} {h : zH} {r0 : Option Nat} : zK2 (runF G) d mX1_order pc (zcallTo d mX1_order 214 [zr r0] h ls rest) = if zsum rest ≤ 8 then (callF G d mJ2_size [zr r0] h).bind (zback (runF G) d mX1_order pc ls rest) else none := zK_call2 (d' := d) rfl rfl (Nat.le_of_ble_eq_true rfl)
theorem cK_X1_order_J2_get {G : Nat → Option Nat} {d pc : Nat} {ls : zLs} {rest : List zV} {h : zH} {r0 : Option Nat} {x1 : Int32} : zK2 (runF G) d mX1_order pc (zcallTo d mX1_order 219 [zr r0, zi x1] h ls rest) = if zsum rest ≤ 8 then (callF G d mJ2_get [zr r0, zi x1] h).bind (zback (runF G) d mX1_order pc ls rest) else none := zK_call2 (d' := d) rfl rfl (Nat.le_of_ble_eq_true rfl)
theorem cK_X1_order_J4_max {G : Nat → Option Nat} {d pc : Nat} {ls : zLs} {rest : List zV} {h : zH} {x0 : Int32} {x1 : Int32} : zK2 (runF G) d mX1_order pc (zcallTo d mX1_order 229 [zi x0, zi x1] h ls rest) = if zsum rest ≤ 8 then (callF G d mJ4_max [zi x0, zi x1] h).bind (zback (runF G) d mX1_order pc ls rest) else none := zK_call2 (d' := d) rfl rfl (Nat.le_of_ble_eq_true rfl)
theorem cK_X1_row_X1_apart {G : Nat → Option Nat} {d pc : Nat} {ls : zLs} {rest : List zV} {h : zH} {r0 : Option Nat} {x1 : Int32} {x2 : Int32} {x3 : Int32} {x4 : Int32} : zK2 (runF G) d mX1_row pc (zcallTo d mX1_row 36 [zr r0, zi x1, zi x2, zi x3, zi x4] h ls rest) = if zsum rest ≤ 8 then (callF G d mX1_apart [zr r0, zi x1, zi x2, zi x3, zi x4] h).bind (zback (runF G) d mX1_row pc ls rest) else none := zK_call2 (d' := d) rfl rfl (Nat.le_of_ble_eq_true rfl)
theorem cK_X1_row_X1_row {G : Nat → Option Nat} {d pc : Nat} {ls : zLs} {rest : List zV} {h : zH} {r0 : Option Nat} {x1 : Int32} {x2 : Int32} {x3 : Int32} {x4 : Int32} : zK2 (runF G) (d + 1) mX1_row pc (zcallTo (d + 1) mX1_row 38 [zr r0, zi x1, zi x2, zi x3, zi x4] h ls rest) = if zsum rest ≤ 8 then (callF G d mX1_row [zr r0, zi x1, zi x2, zi x3, zi x4] h).bind (zback (runF G) (d + 1) mX1_row pc ls rest) else none := zK_call2 (d' := d) rfl rfl (Nat.le_of_ble_eq_true rfl)
theorem cK_X1_row_J2_size {G : Nat → Option Nat} {d pc : Nat} {ls : zLs} {rest : List zV} {h : zH} {r0 : Option Nat} : zK2 (runF G) d mX1_row pc (zcallTo d mX1_row 214 [zr r0] h ls rest) = if zsum rest ≤ 8 then (callF G d mJ2_size [zr r0] h).bind (zback (runF G) d mX1_row pc ls rest) else none := zK_call2 (d' := d) rfl rfl (Nat.le_of_ble_eq_true rfl)
theorem cK_X1_row_J2_get {G : Nat → Option Nat} {d pc : Nat} {ls : zLs} {rest : List zV} {h : zH} {r0 : Option Nat} {x1 : Int32} : zK2 (runF G) d mX1_row pc (zcallTo d mX1_row 219 [zr r0, zi x1] h ls rest) = if zsum rest ≤ 8 then (callF G d mJ2_get [zr r0, zi x1] h).bind (zback (runF G) d mX1_row pc ls rest) else none := zK_call2 (d' := d) rfl rfl (Nat.le_of_ble_eq_true rfl)
theorem cK_X1_row_J4_max {G : Nat → Option Nat} {d pc : Nat} {ls : zLs} {rest : List zV} {h : zH} {x0 : Int32} {x1 : Int32} : zK2 (runF G) d mX1_row pc (zcallTo d mX1_row 229 [zi x0, zi x1] h ls rest) = if zsum rest ≤ 8 then (callF G d mJ4_max [zi x0, zi x1] h).bind (zback (runF G) d mX1_row pc ls rest) else none := zK_call2 (d' := d) rfl rfl (Nat.le_of_ble_eq_true rfl)
theorem cK_X1_enough_X1_meanOf {G : Nat → Option Nat} {d pc : Nat} {ls : zLs} {rest : List zV} {h : zH} {r0 : Option Nat} {x1 : Int32} {x2 : Int32} {x3 : Int32} : zK2 (runF G) d mX1_enough pc (zcallTo d mX1_enough 34 [zr r0, zi x1, zi x2, zi x3] h ls rest) = if zsum rest ≤ 8 then (callF G d mX1_meanOf [zr r0, zi x1, zi x2, zi x3] h).bind (zback (runF G) d mX1_enough pc ls rest) else none := zK_call2 (d' := d) rfl rfl (Nat.le_of_ble_eq_true rfl)
theorem cK_X1_enough_X1_apart {G : Nat → Option Nat} {d pc : Nat} {ls : zLs} {rest : List zV} {h : zH} {r0 : Option Nat} {x1 : Int32} {x2 : Int32} {x3 : Int32} {x4 : Int32} : zK2 (runF G) d mX1_enough pc (zcallTo d mX1_enough 36 [zr r0, zi x1, zi x2, zi x3, zi x4] h ls rest) = if zsum rest ≤ 8 then (callF G d mX1_apart [zr r0, zi x1, zi x2, zi x3, zi x4] h).bind (zback (runF G) d mX1_enough pc ls rest) else none := zK_call2 (d' := d) rfl rfl (Nat.le_of_ble_eq_true rfl)
theorem cK_X1_enough_J4_abs {G : Nat → Option Nat} {d pc : Nat} {ls : zLs} {rest : List zV} {h : zH} {x0 : Int32} : zK2 (runF G) d mX1_enough pc (zcallTo d mX1_enough 231 [zi x0] h ls rest) = if zsum rest ≤ 8 then (callF G d mJ4_abs [zi x0] h).bind (zback (runF G) d mX1_enough pc ls rest) else none := zK_call2 (d' := d) rfl rfl (Nat.le_of_ble_eq_true rfl)
theorem cK_X1_may_X1_isShop {G : Nat → Option Nat} {d pc : Nat} {ls : zLs} {rest : List zV} {h : zH} {r0 : Option Nat} {x1 : Int32} : zK2 (runF G) d mX1_may pc (zcallTo d mX1_may 14 [zr r0, zi x1] h ls rest) = if zsum rest ≤ 8 then (callF G d mX1_isShop [zr r0, zi x1] h).bind (zback (runF G) d mX1_may pc ls rest) else none := zK_call2 (d' := d) rfl rfl (Nat.le_of_ble_eq_true rfl)
theorem cK_X1_may_X1_isBuyer {G : Nat → Option Nat} {d pc : Nat} {ls : zLs} {rest : List zV} {h : zH} {r0 : Option Nat} {x1 : Int32} : zK2 (runF G) d mX1_may pc (zcallTo d mX1_may 15 [zr r0, zi x1] h ls rest) = if zsum rest ≤ 8 then (callF G d mX1_isBuyer [zr r0, zi x1] h).bind (zback (runF G) d mX1_may pc ls rest) else none := zK_call2 (d' := d) rfl rfl (Nat.le_of_ble_eq_true rfl)
theorem cK_X1_may_X1_isDay {G : Nat → Option Nat} {d pc : Nat} {ls : zLs} {rest : List zV} {h : zH} {x0 : Int32} : zK2 (runF G) d mX1_may pc (zcallTo d mX1_may 20 [zi x0] h ls rest) = if zsum rest ≤ 8 then (callF G d mX1_isDay [zi x0] h).bind (zback (runF G) d mX1_may pc ls rest) else none := zK_call2 (d' := d) rfl rfl (Nat.le_of_ble_eq_true rfl)
theorem cK_X1_may_X1_works {G : Nat → Option Nat} {d pc : Nat} {ls : zLs} {rest : List zV} {h : zH} {r0 : Option Nat} : zK2 (runF G) d mX1_may pc (zcallTo d mX1_may 22 [zr r0] h ls rest) = if zsum rest ≤ 8 then (callF G d mX1_works [zr r0] h).bind (zback (runF G) d mX1_may pc ls rest) else none := zK_call2 (d' := d) rfl rfl (Nat.le_of_ble_eq_true rfl)
theorem cK_X1_may_X1_mayGo {G : Nat → Option Nat} {d pc : Nat} {ls : zLs} {rest : List zV} {h : zH} {r0 : Option Nat} {x1 : Int32} {r2 : Option Nat} {x3 : Int32} : zK2 (runF G) d mX1_may pc (zcallTo d mX1_may 41 [zr r0, zi x1, zr r2, zi x3] h ls rest) = if zsum rest ≤ 8 then (callF G d mX1_mayGo [zr r0, zi x1, zr r2, zi x3] h).bind (zback (runF G) d mX1_may pc ls rest) else none := zK_call2 (d' := d) rfl rfl (Nat.le_of_ble_eq_true rfl)
theorem cK_X1_may_J2_get {G : Nat → Option Nat} {d pc : Nat} {ls : zLs} {rest : List zV} {h : zH} {r0 : Option Nat} {x1 : Int32} : zK2 (runF G) d mX1_may pc (zcallTo d mX1_may 219 [zr r0, zi x1] h ls rest) = if zsum rest ≤ 8 then (callF G d mJ2_get [zr r0, zi x1] h).bind (zback (runF G) d mX1_may pc ls rest) else none := zK_call2 (d' := d) rfl rfl (Nat.le_of_ble_eq_true rfl)
theorem cK_X1_mayGo_X6_way {G : Nat → Option Nat} {d pc : Nat} {ls : zLs} {rest : List zV} {h : zH} {r0 : Option Nat} {r1 : Option Nat} : zK2 (runF G) d mX1_mayGo pc (zcallTo d mX1_mayGo 173 [zr r0, zr r1] h ls rest) = if zsum rest ≤ 8 then (callF G d mX6_way [zr r0, zr r1] h).bind (zback (runF G) d mX1_mayGo pc ls rest) else none := zK_call2 (d' := d) rfl rfl (Nat.le_of_ble_eq_true rfl)
theorem cK_X1_mayGo_J2_size {G : Nat → Option Nat} {d pc : Nat} {ls : zLs} {rest : List zV} {h : zH} {r0 : Option Nat} : zK2 (runF G) d mX1_mayGo pc (zcallTo d mX1_mayGo 214 [zr r0] h ls rest) = if zsum rest ≤ 8 then (callF G d mJ2_size [zr r0] h).bind (zback (runF G) d mX1_mayGo pc ls rest) else none := zK_call2 (d' := d) rfl rfl (Nat.le_of_ble_eq_true rfl)
theorem cK_X1_mayGo_J2_get {G : Nat → Option Nat} {d pc : Nat} {ls : zLs} {rest : List zV} {h : zH} {r0 : Option Nat} {x1 : Int32} : zK2 (runF G) d mX1_mayGo pc (zcallTo d mX1_mayGo 219 [zr r0, zi x1] h ls rest) = if zsum rest ≤ 8 then (callF G d mJ2_get [zr r0, zi x1] h).bind (zback (runF G) d mX1_mayGo pc ls rest) else none := zK_call2 (d' := d) rfl rfl (Nat.le_of_ble_eq_true rfl)
theorem cK_X1_mayGo_J4_abs {G : Nat → Option Nat} {d pc : Nat} {ls : zLs} {rest : List zV} {h : zH} {x0 : Int32} : zK2 (runF G) d mX1_mayGo pc (zcallTo d mX1_mayGo 231 [zi x0] h ls rest) = if zsum rest ≤ 8 then (callF G d mJ4_abs [zi x0] h).bind (zback (runF G) d mX1_mayGo pc ls rest) else none := zK_call2 (d' := d) rfl rfl (Nat.le_of_ble_eq_true rfl)
theorem cK_X1_given_X1_in {G : Nat → Option Nat} {d pc : Nat} {ls : zLs} {rest : List zV} {h : zH} {x0 : Int32} {x1 : Int32} {x2 : Int32} : zK2 (runF G) d mX1_given pc (zcallTo d mX1_given 6 [zi x0, zi x1, zi x2] h ls rest) = if zsum rest ≤ 8 then (callF G d mX1_in [zi x0, zi x1, zi x2] h).bind (zback (runF G) d mX1_given pc ls rest) else none := zK_call2 (d' := d) rfl rfl (Nat.le_of_ble_eq_true rfl)
theorem cK_X1_given_X1_isDay {G : Nat → Option Nat} {d pc : Nat} {ls : zLs} {rest : List zV} {h : zH} {x0 : Int32} : zK2 (runF G) d mX1_given pc (zcallTo d mX1_given 20 [zi x0] h ls rest) = if zsum rest ≤ 8 then (callF G d mX1_isDay [zi x0] h).bind (zback (runF G) d mX1_given pc ls rest) else none := zK_call2 (d' := d) rfl rfl (Nat.le_of_ble_eq_true rfl)
theorem cK_X1_given_X1_works {G : Nat → Option Nat} {d pc : Nat} {ls : zLs} {rest : List zV} {h : zH} {r0 : Option Nat} : zK2 (runF G) d mX1_given pc (zcallTo d mX1_given 22 [zr r0] h ls rest) = if zsum rest ≤ 8 then (callF G d mX1_works [zr r0] h).bind (zback (runF G) d mX1_given pc ls rest) else none := zK_call2 (d' := d) rfl rfl (Nat.le_of_ble_eq_true rfl)
theorem cK_X1_given_X1_mayGo {G : Nat → Option Nat} {d pc : Nat} {ls : zLs} {rest : List zV} {h : zH} {r0 : Option Nat} {x1 : Int32} {r2 : Option Nat} {x3 : Int32} : zK2 (runF G) d mX1_given pc (zcallTo d mX1_given 41 [zr r0, zi x1, zr r2, zi x3] h ls rest) = if zsum rest ≤ 8 then (callF G d mX1_mayGo [zr r0, zi x1, zr r2, zi x3] h).bind (zback (runF G) d mX1_given pc ls rest) else none := zK_call2 (d' := d) rfl rfl (Nat.le_of_ble_eq_true rfl)
theorem cK_X1_given_X1_sumBy {G : Nat → Option Nat} {d pc : Nat} {ls : zLs} {rest : List zV} {h : zH} {r0 : Option Nat} {x1 : Int32} {x2 : Int32} {x3 : Int32} {x4 : Int32} : zK2 (runF G) d mX1_given pc (zcallTo d mX1_given 43 [zr r0, zi x1, zi x2, zi x3, zi x4] h ls rest) = if zsum rest ≤ 8 then (callF G d mX1_sumBy [zr r0, zi x1, zi x2, zi x3, zi x4] h).bind (zback (runF G) d mX1_given pc ls rest) else none := zK_call2 (d' := d) rfl rfl (Nat.le_of_ble_eq_true rfl)
theorem cK_X1_given_X6_way {G : Nat → Option Nat} {d pc : Nat} {ls : zLs} {rest : List zV} {h : zH} {r0 : Option Nat} {r1 : Option Nat} : zK2 (runF G) d mX1_given pc (zcallTo d mX1_given 173 [zr r0, zr r1] h ls rest) = if zsum rest ≤ 8 then (callF G d mX6_way [zr r0, zr r1] h).bind (zback (runF G) d mX1_given pc ls rest) else none := zK_call2 (d' := d) rfl rfl (Nat.le_of_ble_eq_true rfl)
theorem cK_X1_given_J2_size {G : Nat → Option Nat} {d pc : Nat} {ls : zLs} {rest : List zV} {h : zH} {r0 : Option Nat} : zK2 (runF G) d mX1_given pc (zcallTo d mX1_given 214 [zr r0] h ls rest) = if zsum rest ≤ 8 then (callF G d mJ2_size [zr r0] h).bind (zback (runF G) d mX1_given pc ls rest) else none := zK_call2 (d' := d) rfl rfl (Nat.le_of_ble_eq_true rfl)
theorem cK_X1_given_J2_get {G : Nat → Option Nat} {d pc : Nat} {ls : zLs} {rest : List zV} {h : zH} {r0 : Option Nat} {x1 : Int32} : zK2 (runF G) d mX1_given pc (zcallTo d mX1_given 219 [zr r0, zi x1] h ls rest) = if zsum rest ≤ 8 then (callF G d mJ2_get [zr r0, zi x1] h).bind (zback (runF G) d mX1_given pc ls rest) else none := zK_call2 (d' := d) rfl rfl (Nat.le_of_ble_eq_true rfl)
theorem cK_X1_given_J4_min {G : Nat → Option Nat} {d pc : Nat} {ls : zLs} {rest : List zV} {h : zH} {x0 : Int32} {x1 : Int32} : zK2 (runF G) d mX1_given pc (zcallTo d mX1_given 230 [zi x0, zi x1] h ls rest) = if zsum rest ≤ 8 then (callF G d mJ4_min [zi x0, zi x1] h).bind (zback (runF G) d mX1_given pc ls rest) else none := zK_call2 (d' := d) rfl rfl (Nat.le_of_ble_eq_true rfl)
theorem cK_X1_given_J17_bitCount {G : Nat → Option Nat} {d pc : Nat} {ls : zLs} {rest : List zV} {h : zH} {x0 : Int32} : zK2 (runF G) d mX1_given pc (zcallTo d mX1_given 302 [zi x0] h ls rest) = if zsum rest ≤ 8 then (callF G d mJ17_bitCount [zi x0] h).bind (zback (runF G) d mX1_given pc ls rest) else none := zK_call2 (d' := d) rfl rfl (Nat.le_of_ble_eq_true rfl)
theorem cK_X1_sumBy_X1_mayGo {G : Nat → Option Nat} {d pc : Nat} {ls : zLs} {rest : List zV} {h : zH} {r0 : Option Nat} {x1 : Int32} {r2 : Option Nat} {x3 : Int32} : zK2 (runF G) d mX1_sumBy pc (zcallTo d mX1_sumBy 41 [zr r0, zi x1, zr r2, zi x3] h ls rest) = if zsum rest ≤ 8 then (callF G d mX1_mayGo [zr r0, zi x1, zr r2, zi x3] h).bind (zback (runF G) d mX1_sumBy pc ls rest) else none := zK_call2 (d' := d) rfl rfl (Nat.le_of_ble_eq_true rfl)
theorem cK_X1_sumBy_X6_way {G : Nat → Option Nat} {d pc : Nat} {ls : zLs} {rest : List zV} {h : zH} {r0 : Option Nat} {r1 : Option Nat} : zK2 (runF G) d mX1_sumBy pc (zcallTo d mX1_sumBy 173 [zr r0, zr r1] h ls rest) = if zsum rest ≤ 8 then (callF G d mX6_way [zr r0, zr r1] h).bind (zback (runF G) d mX1_sumBy pc ls rest) else none := zK_call2 (d' := d) rfl rfl (Nat.le_of_ble_eq_true rfl)
theorem cK_X1_sumBy_J2_get {G : Nat → Option Nat} {d pc : Nat} {ls : zLs} {rest : List zV} {h : zH} {r0 : Option Nat} {x1 : Int32} : zK2 (runF G) d mX1_sumBy pc (zcallTo d mX1_sumBy 219 [zr r0, zi x1] h ls rest) = if zsum rest ≤ 8 then (callF G d mJ2_get [zr r0, zi x1] h).bind (zback (runF G) d mX1_sumBy pc ls rest) else none := zK_call2 (d' := d) rfl rfl (Nat.le_of_ble_eq_true rfl)
theorem cK_X1_drawn_X1_in {G : Nat → Option Nat} {d pc : Nat} {ls : zLs} {rest : List zV} {h : zH} {x0 : Int32} {x1 : Int32} {x2 : Int32} : zK2 (runF G) d mX1_drawn pc (zcallTo d mX1_drawn 6 [zi x0, zi x1, zi x2] h ls rest) = if zsum rest ≤ 8 then (callF G d mX1_in [zi x0, zi x1, zi x2] h).bind (zback (runF G) d mX1_drawn pc ls rest) else none := zK_call2 (d' := d) rfl rfl (Nat.le_of_ble_eq_true rfl)
theorem cK_X1_drawn_X1_isShop {G : Nat → Option Nat} {d pc : Nat} {ls : zLs} {rest : List zV} {h : zH} {r0 : Option Nat} {x1 : Int32} : zK2 (runF G) d mX1_drawn pc (zcallTo d mX1_drawn 14 [zr r0, zi x1] h ls rest) = if zsum rest ≤ 8 then (callF G d mX1_isShop [zr r0, zi x1] h).bind (zback (runF G) d mX1_drawn pc ls rest) else none := zK_call2 (d' := d) rfl rfl (Nat.le_of_ble_eq_true rfl)
theorem cK_X1_drawn_X1_works {G : Nat → Option Nat} {d pc : Nat} {ls : zLs} {rest : List zV} {h : zH} {r0 : Option Nat} : zK2 (runF G) d mX1_drawn pc (zcallTo d mX1_drawn 22 [zr r0] h ls rest) = if zsum rest ≤ 8 then (callF G d mX1_works [zr r0] h).bind (zback (runF G) d mX1_drawn pc ls rest) else none := zK_call2 (d' := d) rfl rfl (Nat.le_of_ble_eq_true rfl)
theorem cK_X1_drawn_X1_latest {G : Nat → Option Nat} {d pc : Nat} {ls : zLs} {rest : List zV} {h : zH} {r0 : Option Nat} {x1 : Int32} : zK2 (runF G) d mX1_drawn pc (zcallTo d mX1_drawn 45 [zr r0, zi x1] h ls rest) = if zsum rest ≤ 8 then (callF G d mX1_latest [zr r0, zi x1] h).bind (zback (runF G) d mX1_drawn pc ls rest) else none := zK_call2 (d' := d) rfl rfl (Nat.le_of_ble_eq_true rfl)
theorem cK_X1_latest_J2_size {G : Nat → Option Nat} {d pc : Nat} {ls : zLs} {rest : List zV} {h : zH} {r0 : Option Nat} : zK2 (runF G) d mX1_latest pc (zcallTo d mX1_latest 214 [zr r0] h ls rest) = if zsum rest ≤ 8 then (callF G d mJ2_size [zr r0] h).bind (zback (runF G) d mX1_latest pc ls rest) else none := zK_call2 (d' := d) rfl rfl (Nat.le_of_ble_eq_true rfl)
theorem cK_X1_latest_J2_get {G : Nat → Option Nat} {d pc : Nat} {ls : zLs} {rest : List zV} {h : zH} {r0 : Option Nat} {x1 : Int32} : zK2 (runF G) d mX1_latest pc (zcallTo d mX1_latest 219 [zr r0, zi x1] h ls rest) = if zsum rest ≤ 8 then (callF G d mJ2_get [zr r0, zi x1] h).bind (zback (runF G) d mX1_latest pc ls rest) else none := zK_call2 (d' := d) rfl rfl (Nat.le_of_ble_eq_true rfl)
theorem cK_X1_sway_X1_in {G : Nat → Option Nat} {d pc : Nat} {ls : zLs} {rest : List zV} {h : zH} {x0 : Int32} {x1 : Int32} {x2 : Int32} : zK2 (runF G) d mX1_sway pc (zcallTo d mX1_sway 6 [zi x0, zi x1, zi x2] h ls rest) = if zsum rest ≤ 8 then (callF G d mX1_in [zi x0, zi x1, zi x2] h).bind (zback (runF G) d mX1_sway pc ls rest) else none := zK_call2 (d' := d) rfl rfl (Nat.le_of_ble_eq_true rfl)
theorem cK_X1_sway_X1_isShop {G : Nat → Option Nat} {d pc : Nat} {ls : zLs} {rest : List zV} {h : zH} {r0 : Option Nat} {x1 : Int32} : zK2 (runF G) d mX1_sway pc (zcallTo d mX1_sway 14 [zr r0, zi x1] h ls rest) = if zsum rest ≤ 8 then (callF G d mX1_isShop [zr r0, zi x1] h).bind (zback (runF G) d mX1_sway pc ls rest) else none := zK_call2 (d' := d) rfl rfl (Nat.le_of_ble_eq_true rfl)
theorem cK_X1_sway_X1_works {G : Nat → Option Nat} {d pc : Nat} {ls : zLs} {rest : List zV} {h : zH} {r0 : Option Nat} : zK2 (runF G) d mX1_sway pc (zcallTo d mX1_sway 22 [zr r0] h ls rest) = if zsum rest ≤ 8 then (callF G d mX1_works [zr r0] h).bind (zback (runF G) d mX1_sway pc ls rest) else none := zK_call2 (d' := d) rfl rfl (Nat.le_of_ble_eq_true rfl)
theorem cK_X1_sway_X1_latest {G : Nat → Option Nat} {d pc : Nat} {ls : zLs} {rest : List zV} {h : zH} {r0 : Option Nat} {x1 : Int32} : zK2 (runF G) d mX1_sway pc (zcallTo d mX1_sway 45 [zr r0, zi x1] h ls rest) = if zsum rest ≤ 8 then (callF G d mX1_latest [zr r0, zi x1] h).bind (zback (runF G) d mX1_sway pc ls rest) else none := zK_call2 (d' := d) rfl rfl (Nat.le_of_ble_eq_true rfl)
theorem cK_X1_sway_X9_bonus {G : Nat → Option Nat} {d pc : Nat} {ls : zLs} {rest : List zV} {h : zH} {r0 : Option Nat} {r1 : Option Nat} {r2 : Option Nat} {x3 : Int32} : zK2 (runF G) d mX1_sway pc (zcallTo d mX1_sway 185 [zr r0, zr r1, zr r2, zi x3] h ls rest) = if zsum rest ≤ 8 then (callF G d mX9_bonus [zr r0, zr r1, zr r2, zi x3] h).bind (zback (runF G) d mX1_sway pc ls rest) else none := zK_call2 (d' := d) rfl rfl (Nat.le_of_ble_eq_true rfl)
theorem cK_X1_sum_X1_in {G : Nat → Option Nat} {d pc : Nat} {ls : zLs} {rest : List zV} {h : zH} {x0 : Int32} {x1 : Int32} {x2 : Int32} : zK2 (runF G) d mX1_sum pc (zcallTo d mX1_sum 6 [zi x0, zi x1, zi x2] h ls rest) = if zsum rest ≤ 8 then (callF G d mX1_in [zi x0, zi x1, zi x2] h).bind (zback (runF G) d mX1_sum pc ls rest) else none := zK_call2 (d' := d) rfl rfl (Nat.le_of_ble_eq_true rfl)
theorem cK_X1_sum_X1_isBuyer {G : Nat → Option Nat} {d pc : Nat} {ls : zLs} {rest : List zV} {h : zH} {r0 : Option Nat} {x1 : Int32} : zK2 (runF G) d mX1_sum pc (zcallTo d mX1_sum 15 [zr r0, zi x1] h ls rest) = if zsum rest ≤ 8 then (callF G d mX1_isBuyer [zr r0, zi x1] h).bind (zback (runF G) d mX1_sum pc ls rest) else none := zK_call2 (d' := d) rfl rfl (Nat.le_of_ble_eq_true rfl)
theorem cK_X1_sum_X1_works {G : Nat → Option Nat} {d pc : Nat} {ls : zLs} {rest : List zV} {h : zH} {r0 : Option Nat} : zK2 (runF G) d mX1_sum pc (zcallTo d mX1_sum 22 [zr r0] h ls rest) = if zsum rest ≤ 8 then (callF G d mX1_works [zr r0] h).bind (zback (runF G) d mX1_sum pc ls rest) else none := zK_call2 (d' := d) rfl rfl (Nat.le_of_ble_eq_true rfl)
theorem cK_X1_sum_X1_areDays {G : Nat → Option Nat} {d pc : Nat} {ls : zLs} {rest : List zV} {h : zH} {x0 : Int32} {x1 : Int32} : zK2 (runF G) d mX1_sum pc (zcallTo d mX1_sum 33 [zi x0, zi x1] h ls rest) = if zsum rest ≤ 8 then (callF G d mX1_areDays [zi x0, zi x1] h).bind (zback (runF G) d mX1_sum pc ls rest) else none := zK_call2 (d' := d) rfl rfl (Nat.le_of_ble_eq_true rfl)
theorem cK_X1_sum_X6_way {G : Nat → Option Nat} {d pc : Nat} {ls : zLs} {rest : List zV} {h : zH} {r0 : Option Nat} {r1 : Option Nat} : zK2 (runF G) d mX1_sum pc (zcallTo d mX1_sum 173 [zr r0, zr r1] h ls rest) = if zsum rest ≤ 8 then (callF G d mX6_way [zr r0, zr r1] h).bind (zback (runF G) d mX1_sum pc ls rest) else none := zK_call2 (d' := d) rfl rfl (Nat.le_of_ble_eq_true rfl)
theorem cK_X1_sum_X7_counts {G : Nat → Option Nat} {d pc : Nat} {ls : zLs} {rest : List zV} {h : zH} {r0 : Option Nat} : zK2 (runF G) d mX1_sum pc (zcallTo d mX1_sum 180 [zr r0] h ls rest) = if zsum rest ≤ 8 then (callF G d mX7_counts [zr r0] h).bind (zback (runF G) d mX1_sum pc ls rest) else none := zK_call2 (d' := d) rfl rfl (Nat.le_of_ble_eq_true rfl)
theorem cK_X1_sum_J2_size {G : Nat → Option Nat} {d pc : Nat} {ls : zLs} {rest : List zV} {h : zH} {r0 : Option Nat} : zK2 (runF G) d mX1_sum pc (zcallTo d mX1_sum 214 [zr r0] h ls rest) = if zsum rest ≤ 8 then (callF G d mJ2_size [zr r0] h).bind (zback (runF G) d mX1_sum pc ls rest) else none := zK_call2 (d' := d) rfl rfl (Nat.le_of_ble_eq_true rfl)
theorem cK_X1_sum_J2_get {G : Nat → Option Nat} {d pc : Nat} {ls : zLs} {rest : List zV} {h : zH} {r0 : Option Nat} {x1 : Int32} : zK2 (runF G) d mX1_sum pc (zcallTo d mX1_sum 219 [zr r0, zi x1] h ls rest) = if zsum rest ≤ 8 then (callF G d mJ2_get [zr r0, zi x1] h).bind (zback (runF G) d mX1_sum pc ls rest) else none := zK_call2 (d' := d) rfl rfl (Nat.le_of_ble_eq_true rfl)
theorem cK_X1_count_X1_works {G : Nat → Option Nat} {d pc : Nat} {ls : zLs} {rest : List zV} {h : zH} {r0 : Option Nat} : zK2 (runF G) d mX1_count pc (zcallTo d mX1_count 22 [zr r0] h ls rest) = if zsum rest ≤ 8 then (callF G d mX1_works [zr r0] h).bind (zback (runF G) d mX1_count pc ls rest) else none := zK_call2 (d' := d) rfl rfl (Nat.le_of_ble_eq_true rfl)
theorem cK_X1_count_X1_isFirstOf {G : Nat → Option Nat} {d pc : Nat} {ls : zLs} {rest : List zV} {h : zH} {r0 : Option Nat} {r1 : Option Nat} : zK2 (runF G) d mX1_count pc (zcallTo d mX1_count 26 [zr r0, zr r1] h ls rest) = if zsum rest ≤ 8 then (callF G d mX1_isFirstOf [zr r0, zr r1] h).bind (zback (runF G) d mX1_count pc ls rest) else none := zK_call2 (d' := d) rfl rfl (Nat.le_of_ble_eq_true rfl)
theorem cK_X1_count_X1_seeks {G : Nat → Option Nat} {d pc : Nat} {ls : zLs} {rest : List zV} {h : zH} {r0 : Option Nat} {x1 : Int32} {x2 : Int32} {x3 : Int32} : zK2 (runF G) d mX1_count pc (zcallTo d mX1_count 27 [zr r0, zi x1, zi x2, zi x3] h ls rest) = if zsum rest ≤ 8 then (callF G d mX1_seeks [zr r0, zi x1, zi x2, zi x3] h).bind (zback (runF G) d mX1_count pc ls rest) else none := zK_call2 (d' := d) rfl rfl (Nat.le_of_ble_eq_true rfl)
theorem cK_X1_count_X7_counts {G : Nat → Option Nat} {d pc : Nat} {ls : zLs} {rest : List zV} {h : zH} {r0 : Option Nat} : zK2 (runF G) d mX1_count pc (zcallTo d mX1_count 180 [zr r0] h ls rest) = if zsum rest ≤ 8 then (callF G d mX7_counts [zr r0] h).bind (zback (runF G) d mX1_count pc ls rest) else none := zK_call2 (d' := d) rfl rfl (Nat.le_of_ble_eq_true rfl)
theorem cK_X1_count_J2_size {G : Nat → Option Nat} {d pc : Nat} {ls : zLs} {rest : List zV} {h : zH} {r0 : Option Nat} : zK2 (runF G) d mX1_count pc (zcallTo d mX1_count 214 [zr r0] h ls rest) = if zsum rest ≤ 8 then (callF G d mJ2_size [zr r0] h).bind (zback (runF G) d mX1_count pc ls rest) else none := zK_call2 (d' := d) rfl rfl (Nat.le_of_ble_eq_true rfl)
theorem cK_X1_count_J2_get {G : Nat → Option Nat} {d pc : Nat} {ls : zLs} {rest : List zV} {h : zH} {r0 : Option Nat} {x1 : Int32} : zK2 (runF G) d mX1_count pc (zcallTo d mX1_count 219 [zr r0, zi x1] h ls rest) = if zsum rest ≤ 8 then (callF G d mJ2_get [zr r0, zi x1] h).bind (zback (runF G) d mX1_count pc ls rest) else none := zK_call2 (d' := d) rfl rfl (Nat.le_of_ble_eq_true rfl)
theorem cK_X1_look_X1_in {G : Nat → Option Nat} {d pc : Nat} {ls : zLs} {rest : List zV} {h : zH} {x0 : Int32} {x1 : Int32} {x2 : Int32} : zK2 (runF G) d mX1_look pc (zcallTo d mX1_look 6 [zi x0, zi x1, zi x2] h ls rest) = if zsum rest ≤ 8 then (callF G d mX1_in [zi x0, zi x1, zi x2] h).bind (zback (runF G) d mX1_look pc ls rest) else none := zK_call2 (d' := d) rfl rfl (Nat.le_of_ble_eq_true rfl)
theorem cK_X1_look_X1_visitAt {G : Nat → Option Nat} {d pc : Nat} {ls : zLs} {rest : List zV} {h : zH} {r0 : Option Nat} {x1 : Int32} : zK2 (runF G) d mX1_look pc (zcallTo d mX1_look 50 [zr r0, zi x1] h ls rest) = if zsum rest ≤ 8 then (callF G d mX1_visitAt [zr r0, zi x1] h).bind (zback (runF G) d mX1_look pc ls rest) else none := zK_call2 (d' := d) rfl rfl (Nat.le_of_ble_eq_true rfl)
theorem cK_X1_look_X1_need {G : Nat → Option Nat} {d pc : Nat} {ls : zLs} {rest : List zV} {h : zH} {x0 : Int32} : zK2 (runF G) d mX1_look pc (zcallTo d mX1_look 51 [zi x0] h ls rest) = if zsum rest ≤ 8 then (callF G d mX1_need [zi x0] h).bind (zback (runF G) d mX1_look pc ls rest) else none := zK_call2 (d' := d) rfl rfl (Nat.le_of_ble_eq_true rfl)
theorem cK_X1_visitAt_X1_isVisit {G : Nat → Option Nat} {d pc : Nat} {ls : zLs} {rest : List zV} {h : zH} {r0 : Option Nat} {x1 : Int32} : zK2 (runF G) d mX1_visitAt pc (zcallTo d mX1_visitAt 17 [zr r0, zi x1] h ls rest) = if zsum rest ≤ 8 then (callF G d mX1_isVisit [zr r0, zi x1] h).bind (zback (runF G) d mX1_visitAt pc ls rest) else none := zK_call2 (d' := d) rfl rfl (Nat.le_of_ble_eq_true rfl)
theorem cK_X1_visitAt_X1_works {G : Nat → Option Nat} {d pc : Nat} {ls : zLs} {rest : List zV} {h : zH} {r0 : Option Nat} : zK2 (runF G) d mX1_visitAt pc (zcallTo d mX1_visitAt 22 [zr r0] h ls rest) = if zsum rest ≤ 8 then (callF G d mX1_works [zr r0] h).bind (zback (runF G) d mX1_visitAt pc ls rest) else none := zK_call2 (d' := d) rfl rfl (Nat.le_of_ble_eq_true rfl)
theorem cK_X1_visitAt_X1_need {G : Nat → Option Nat} {d pc : Nat} {ls : zLs} {rest : List zV} {h : zH} {x0 : Int32} : zK2 (runF G) d mX1_visitAt pc (zcallTo d mX1_visitAt 51 [zi x0] h ls rest) = if zsum rest ≤ 8 then (callF G d mX1_need [zi x0] h).bind (zback (runF G) d mX1_visitAt pc ls rest) else none := zK_call2 (d' := d) rfl rfl (Nat.le_of_ble_eq_true rfl)
theorem cK_X1_visitAt_J2_get {G : Nat → Option Nat} {d pc : Nat} {ls : zLs} {rest : List zV} {h : zH} {r0 : Option Nat} {x1 : Int32} : zK2 (runF G) d mX1_visitAt pc (zcallTo d mX1_visitAt 219 [zr r0, zi x1] h ls rest) = if zsum rest ≤ 8 then (callF G d mJ2_get [zr r0, zi x1] h).bind (zback (runF G) d mX1_visitAt pc ls rest) else none := zK_call2 (d' := d) rfl rfl (Nat.le_of_ble_eq_true rfl)
theorem cK_X1_fair_2_X1_fair {G : Nat → Option Nat} {d pc : Nat} {ls : zLs} {rest : List zV} {h : zH} {r0 : Option Nat} {r1 : Option Nat} : zK2 (runF G) d mX1_fair_2 pc (zcallTo d mX1_fair_2 35 [zr r0, zr r1] h ls rest) = if zsum rest ≤ 8 then (callF G d mX1_fair [zr r0, zr r1] h).bind (zback (runF G) d mX1_fair_2 pc ls rest) else none := zK_call2 (d' := d) rfl rfl (Nat.le_of_ble_eq_true rfl)
theorem cK_X1_fair_2_X1_visitAt {G : Nat → Option Nat} {d pc : Nat} {ls : zLs} {rest : List zV} {h : zH} {r0 : Option Nat} {x1 : Int32} : zK2 (runF G) d mX1_fair_2 pc (zcallTo d mX1_fair_2 50 [zr r0, zi x1] h ls rest) = if zsum rest ≤ 8 then (callF G d mX1_visitAt [zr r0, zi x1] h).bind (zback (runF G) d mX1_fair_2 pc ls rest) else none := zK_call2 (d' := d) rfl rfl (Nat.le_of_ble_eq_true rfl)
theorem cK_X1_lean_X1_isBuyer {G : Nat → Option Nat} {d pc : Nat} {ls : zLs} {rest : List zV} {h : zH} {r0 : Option Nat} {x1 : Int32} : zK2 (runF G) d mX1_lean pc (zcallTo d mX1_lean 15 [zr r0, zi x1] h ls rest) = if zsum rest ≤ 8 then (callF G d mX1_isBuyer [zr r0, zi x1] h).bind (zback (runF G) d mX1_lean pc ls rest) else none := zK_call2 (d' := d) rfl rfl (Nat.le_of_ble_eq_true rfl)
theorem cK_X1_lean_X1_works {G : Nat → Option Nat} {d pc : Nat} {ls : zLs} {rest : List zV} {h : zH} {r0 : Option Nat} : zK2 (runF G) d mX1_lean pc (zcallTo d mX1_lean 22 [zr r0] h ls rest) = if zsum rest ≤ 8 then (callF G d mX1_works [zr r0] h).bind (zback (runF G) d mX1_lean pc ls rest) else none := zK_call2 (d' := d) rfl rfl (Nat.le_of_ble_eq_true rfl)
theorem cK_X1_lean_X1_need {G : Nat → Option Nat} {d pc : Nat} {ls : zLs} {rest : List zV} {h : zH} {x0 : Int32} : zK2 (runF G) d mX1_lean pc (zcallTo d mX1_lean 51 [zi x0] h ls rest) = if zsum rest ≤ 8 then (callF G d mX1_need [zi x0] h).bind (zback (runF G) d mX1_lean pc ls rest) else none := zK_call2 (d' := d) rfl rfl (Nat.le_of_ble_eq_true rfl)
theorem cK_X1_mean_X1_isShop {G : Nat → Option Nat} {d pc : Nat} {ls : zLs} {rest : List zV} {h : zH} {r0 : Option Nat} {x1 : Int32} : zK2 (runF G) d mX1_mean pc (zcallTo d mX1_mean 14 [zr r0, zi x1] h ls rest) = if zsum rest ≤ 8 then (callF G d mX1_isShop [zr r0, zi x1] h).bind (zback (runF G) d mX1_mean pc ls rest) else none := zK_call2 (d' := d) rfl rfl (Nat.le_of_ble_eq_true rfl)
theorem cK_X1_mean_X1_works {G : Nat → Option Nat} {d pc : Nat} {ls : zLs} {rest : List zV} {h : zH} {r0 : Option Nat} : zK2 (runF G) d mX1_mean pc (zcallTo d mX1_mean 22 [zr r0] h ls rest) = if zsum rest ≤ 8 then (callF G d mX1_works [zr r0] h).bind (zback (runF G) d mX1_mean pc ls rest) else none := zK_call2 (d' := d) rfl rfl (Nat.le_of_ble_eq_true rfl)
theorem cK_X1_mean_X1_areDays {G : Nat → Option Nat} {d pc : Nat} {ls : zLs} {rest : List zV} {h : zH} {x0 : Int32} {x1 : Int32} : zK2 (runF G) d mX1_mean pc (zcallTo d mX1_mean 33 [zi x0, zi x1] h ls rest) = if zsum rest ≤ 8 then (callF G d mX1_areDays [zi x0, zi x1] h).bind (zback (runF G) d mX1_mean pc ls rest) else none := zK_call2 (d' := d) rfl rfl (Nat.le_of_ble_eq_true rfl)
theorem cK_X1_mean_X1_meanOf {G : Nat → Option Nat} {d pc : Nat} {ls : zLs} {rest : List zV} {h : zH} {r0 : Option Nat} {x1 : Int32} {x2 : Int32} {x3 : Int32} : zK2 (runF G) d mX1_mean pc (zcallTo d mX1_mean 34 [zr r0, zi x1, zi x2, zi x3] h ls rest) = if zsum rest ≤ 8 then (callF G d mX1_meanOf [zr r0, zi x1, zi x2, zi x3] h).bind (zback (runF G) d mX1_mean pc ls rest) else none := zK_call2 (d' := d) rfl rfl (Nat.le_of_ble_eq_true rfl)
theorem cK_X1_mean_X1_need {G : Nat → Option Nat} {d pc : Nat} {ls : zLs} {rest : List zV} {h : zH} {x0 : Int32} : zK2 (runF G) d mX1_mean pc (zcallTo d mX1_mean 51 [zi x0] h ls rest) = if zsum rest ≤ 8 then (callF G d mX1_need [zi x0] h).bind (zback (runF G) d mX1_mean pc ls rest) else none := zK_call2 (d' := d) rfl rfl (Nat.le_of_ble_eq_true rfl)
theorem cK_X2_begin_X2_next {G : Nat → Option Nat} {d pc : Nat} {ls : zLs} {rest : List zV} {h : zH} {r0 : Option Nat} : zK2 (runF G) d mX2_begin pc (zcallTo d mX2_begin 57 [zr r0] h ls rest) = if zsum rest ≤ 8 then (callF G d mX2_next [zr r0] h).bind (zback (runF G) d mX2_begin pc ls rest) else none := zK_call2 (d' := d) rfl rfl (Nat.le_of_ble_eq_true rfl)
theorem cK_X2_begin_X9_init {G : Nat → Option Nat} {d pc : Nat} {ls : zLs} {rest : List zV} {h : zH} {r0 : Option Nat} {x1 : Int32} {x2 : Int32} {x3 : Int32} : zK2 (runF G) d mX2_begin pc (zcallTo d mX2_begin 182 [zr r0, zi x1, zi x2, zi x3] h ls rest) = if zsum rest ≤ 8 then (callF G d mX9_init [zr r0, zi x1, zi x2, zi x3] h).bind (zback (runF G) d mX2_begin pc ls rest) else none := zK_call2 (d' := d) rfl rfl (Nat.le_of_ble_eq_true rfl)
theorem cK_X2_next_X2_at {G : Nat → Option Nat} {d pc : Nat} {ls : zLs} {rest : List zV} {h : zH} {r0 : Option Nat} {x1 : Int32} : zK2 (runF G) d mX2_next pc (zcallTo d mX2_next 58 [zr r0, zi x1] h ls rest) = if zsum rest ≤ 8 then (callF G d mX2_at [zr r0, zi x1] h).bind (zback (runF G) d mX2_next pc ls rest) else none := zK_call2 (d' := d) rfl rfl (Nat.le_of_ble_eq_true rfl)
theorem cK_X2_next_X2_isLetter {G : Nat → Option Nat} {d pc : Nat} {ls : zLs} {rest : List zV} {h : zH} {x0 : Int32} : zK2 (runF G) d mX2_next pc (zcallTo d mX2_next 59 [zi x0] h ls rest) = if zsum rest ≤ 8 then (callF G d mX2_isLetter [zi x0] h).bind (zback (runF G) d mX2_next pc ls rest) else none := zK_call2 (d' := d) rfl rfl (Nat.le_of_ble_eq_true rfl)
theorem cK_X2_next_X2_isDigit {G : Nat → Option Nat} {d pc : Nat} {ls : zLs} {rest : List zV} {h : zH} {x0 : Int32} : zK2 (runF G) d mX2_next pc (zcallTo d mX2_next 60 [zi x0] h ls rest) = if zsum rest ≤ 8 then (callF G d mX2_isDigit [zi x0] h).bind (zback (runF G) d mX2_next pc ls rest) else none := zK_call2 (d' := d) rfl rfl (Nat.le_of_ble_eq_true rfl)
theorem cK_X2_next_J8_indexOf {G : Nat → Option Nat} {d pc : Nat} {ls : zLs} {rest : List zV} {h : zH} {r0 : Option Nat} {x1 : Int32} : zK2 (runF G) d mX2_next pc (zcallTo d mX2_next 242 [zr r0, zi x1] h ls rest) = if zsum rest ≤ 8 then (callF G d mJ8_indexOf [zr r0, zi x1] h).bind (zback (runF G) d mX2_next pc ls rest) else none := zK_call2 (d' := d) rfl rfl (Nat.le_of_ble_eq_true rfl)
theorem cK_X2_whole_X2_next {G : Nat → Option Nat} {d pc : Nat} {ls : zLs} {rest : List zV} {h : zH} {r0 : Option Nat} : zK2 (runF G) d mX2_whole pc (zcallTo d mX2_whole 57 [zr r0] h ls rest) = if zsum rest ≤ 8 then (callF G d mX2_next [zr r0] h).bind (zback (runF G) d mX2_whole pc ls rest) else none := zK_call2 (d' := d) rfl rfl (Nat.le_of_ble_eq_true rfl)
theorem cK_X2_whole_X2_which {G : Nat → Option Nat} {d pc : Nat} {ls : zLs} {rest : List zV} {h : zH} {r0 : Option Nat} {r1 : Option Nat} : zK2 (runF G) d mX2_whole pc (zcallTo d mX2_whole 62 [zr r0, zr r1] h ls rest) = if zsum rest ≤ 8 then (callF G d mX2_which [zr r0, zr r1] h).bind (zback (runF G) d mX2_whole pc ls rest) else none := zK_call2 (d' := d) rfl rfl (Nat.le_of_ble_eq_true rfl)
theorem cK_X2_whole_X2_wrong {G : Nat → Option Nat} {d pc : Nat} {ls : zLs} {rest : List zV} {h : zH} {r0 : Option Nat} {x1 : Int32} : zK2 (runF G) d mX2_whole pc (zcallTo d mX2_whole 63 [zr r0, zi x1] h ls rest) = if zsum rest ≤ 8 then (callF G d mX2_wrong [zr r0, zi x1] h).bind (zback (runF G) d mX2_whole pc ls rest) else none := zK_call2 (d' := d) rfl rfl (Nat.le_of_ble_eq_true rfl)
theorem cK_X2_whole_X2_let {G : Nat → Option Nat} {d pc : Nat} {ls : zLs} {rest : List zV} {h : zH} {r0 : Option Nat} : zK2 (runF G) d mX2_whole pc (zcallTo d mX2_whole 64 [zr r0] h ls rest) = if zsum rest ≤ 8 then (callF G d mX2_let [zr r0] h).bind (zback (runF G) d mX2_whole pc ls rest) else none := zK_call2 (d' := d) rfl rfl (Nat.le_of_ble_eq_true rfl)
theorem cK_X2_whole_X2_need {G : Nat → Option Nat} {d pc : Nat} {ls : zLs} {rest : List zV} {h : zH} {r0 : Option Nat} {x1 : Int32} : zK2 (runF G) d mX2_whole pc (zcallTo d mX2_whole 66 [zr r0, zi x1] h ls rest) = if zsum rest ≤ 8 then (callF G d mX2_need [zr r0, zi x1] h).bind (zback (runF G) d mX2_whole pc ls rest) else none := zK_call2 (d' := d) rfl rfl (Nat.le_of_ble_eq_true rfl)
theorem cK_X2_whole_X2_e {G : Nat → Option Nat} {d pc : Nat} {ls : zLs} {rest : List zV} {h : zH} {r0 : Option Nat} : zK2 (runF G) d mX2_whole pc (zcallTo d mX2_whole 68 [zr r0] h ls rest) = if zsum rest ≤ 8 then (callF G d mX2_e [zr r0] h).bind (zback (runF G) d mX2_whole pc ls rest) else none := zK_call2 (d' := d) rfl rfl (Nat.le_of_ble_eq_true rfl)
theorem cK_X2_whole_X2_number {G : Nat → Option Nat} {d pc : Nat} {ls : zLs} {rest : List zV} {h : zH} {r0 : Option Nat} {x1 : Int32} {x2 : Int32} : zK2 (runF G) d mX2_whole pc (zcallTo d mX2_whole 73 [zr r0, zi x1, zi x2] h ls rest) = if zsum rest ≤ 8 then (callF G d mX2_number [zr r0, zi x1, zi x2] h).bind (zback (runF G) d mX2_whole pc ls rest) else none := zK_call2 (d' := d) rfl rfl (Nat.le_of_ble_eq_true rfl)
theorem cK_X2_whole_X2_need_2 {G : Nat → Option Nat} {d pc : Nat} {ls : zLs} {rest : List zV} {h : zH} {r0 : Option Nat} {r1 : Option Nat} : zK2 (runF G) d mX2_whole pc (zcallTo d mX2_whole 74 [zr r0, zr r1] h ls rest) = if zsum rest ≤ 8 then (callF G d mX2_need_2 [zr r0, zr r1] h).bind (zback (runF G) d mX2_whole pc ls rest) else none := zK_call2 (d' := d) rfl rfl (Nat.le_of_ble_eq_true rfl)
theorem cK_X2_whole_X18_init {G : Nat → Option Nat} {d pc : Nat} {ls : zLs} {rest : List zV} {h : zH} {r0 : Option Nat} {r1 : Option Nat} : zK2 (runF G) d mX2_whole pc (zcallTo d mX2_whole 205 [zr r0, zr r1] h ls rest) = if zsum rest ≤ 8 then (callF G d mX18_init [zr r0, zr r1] h).bind (zback (runF G) d mX2_whole pc ls rest) else none := zK_call2 (d' := d) rfl rfl (Nat.le_of_ble_eq_true rfl)
theorem cK_X2_whole_X19_init {G : Nat → Option Nat} {d pc : Nat} {ls : zLs} {rest : List zV} {h : zH} {r0 : Option Nat} {r1 : Option Nat} {r2 : Option Nat} : zK2 (runF G) d mX2_whole pc (zcallTo d mX2_whole 207 [zr r0, zr r1, zr r2] h ls rest) = if zsum rest ≤ 8 then (callF G d mX19_init [zr r0, zr r1, zr r2] h).bind (zback (runF G) d mX2_whole pc ls rest) else none := zK_call2 (d' := d) rfl rfl (Nat.le_of_ble_eq_true rfl)
theorem cK_X2_whole_X20_init {G : Nat → Option Nat} {d pc : Nat} {ls : zLs} {rest : List zV} {h : zH} {r0 : Option Nat} {x1 : Int32} {r2 : Option Nat} : zK2 (runF G) d mX2_whole pc (zcallTo d mX2_whole 209 [zr r0, zi x1, zr r2] h ls rest) = if zsum rest ≤ 8 then (callF G d mX20_init [zr r0, zi x1, zr r2] h).bind (zback (runF G) d mX2_whole pc ls rest) else none := zK_call2 (d' := d) rfl rfl (Nat.le_of_ble_eq_true rfl)
theorem cK_X2_whole_J2_add {G : Nat → Option Nat} {d pc : Nat} {ls : zLs} {rest : List zV} {h : zH} {r0 : Option Nat} {r1 : Option Nat} : zK2 (runF G) d mX2_whole pc (zcallTo d mX2_whole 215 [zr r0, zr r1] h ls rest) = if zsum rest ≤ 8 then (callF G d mJ2_add [zr r0, zr r1] h).bind (zback (runF G) d mX2_whole pc ls rest) else none := zK_call2 (d' := d) rfl rfl (Nat.le_of_ble_eq_true rfl)
theorem cK_X2_which_J8_indexOf_2 {G : Nat → Option Nat} {d pc : Nat} {ls : zLs} {rest : List zV} {h : zH} {r0 : Option Nat} {x1 : Int32} {x2 : Int32} : zK2 (runF G) d mX2_which pc (zcallTo d mX2_which 243 [zr r0, zi x1, zi x2] h ls rest) = if zsum rest ≤ 8 then (callF G d mJ8_indexOf_2 [zr r0, zi x1, zi x2] h).bind (zback (runF G) d mX2_which pc ls rest) else none := zK_call2 (d' := d) rfl rfl (Nat.le_of_ble_eq_true rfl)
theorem cK_X2_which_J8_length {G : Nat → Option Nat} {d pc : Nat} {ls : zLs} {rest : List zV} {h : zH} {r0 : Option Nat} : zK2 (runF G) d mX2_which pc (zcallTo d mX2_which 245 [zr r0] h ls rest) = if zsum rest ≤ 8 then (callF G d mJ8_length [zr r0] h).bind (zback (runF G) d mX2_which pc ls rest) else none := zK_call2 (d' := d) rfl rfl (Nat.le_of_ble_eq_true rfl)
theorem cK_X2_which_J8_charAt {G : Nat → Option Nat} {d pc : Nat} {ls : zLs} {rest : List zV} {h : zH} {r0 : Option Nat} {x1 : Int32} : zK2 (runF G) d mX2_which pc (zcallTo d mX2_which 248 [zr r0, zi x1] h ls rest) = if zsum rest ≤ 8 then (callF G d mJ8_charAt [zr r0, zi x1] h).bind (zback (runF G) d mX2_which pc ls rest) else none := zK_call2 (d' := d) rfl rfl (Nat.le_of_ble_eq_true rfl)
theorem cK_X2_wrong_X10_init {G : Nat → Option Nat} {d pc : Nat} {ls : zLs} {rest : List zV} {h : zH} {r0 : Option Nat} {x1 : Int32} {x2 : Int32} : zK2 (runF G) d mX2_wrong pc (zcallTo d mX2_wrong 186 [zr r0, zi x1, zi x2] h ls rest) = if zsum rest ≤ 8 then (callF G d mX10_init [zr r0, zi x1, zi x2] h).bind (zback (runF G) d mX2_wrong pc ls rest) else none := zK_call2 (d' := d) rfl rfl (Nat.le_of_ble_eq_true rfl)
theorem cK_X2_let_X2_next {G : Nat → Option Nat} {d pc : Nat} {ls : zLs} {rest : List zV} {h : zH} {r0 : Option Nat} : zK2 (runF G) d mX2_let pc (zcallTo d mX2_let 57 [zr r0] h ls rest) = if zsum rest ≤ 8 then (callF G d mX2_next [zr r0] h).bind (zback (runF G) d mX2_let pc ls rest) else none := zK_call2 (d' := d) rfl rfl (Nat.le_of_ble_eq_true rfl)
theorem cK_X2_let_X2_wrong {G : Nat → Option Nat} {d pc : Nat} {ls : zLs} {rest : List zV} {h : zH} {r0 : Option Nat} {x1 : Int32} : zK2 (runF G) d mX2_let pc (zcallTo d mX2_let 63 [zr r0, zi x1] h ls rest) = if zsum rest ≤ 8 then (callF G d mX2_wrong [zr r0, zi x1] h).bind (zback (runF G) d mX2_let pc ls rest) else none := zK_call2 (d' := d) rfl rfl (Nat.le_of_ble_eq_true rfl)
theorem cK_X2_let_X2_name {G : Nat → Option Nat} {d pc : Nat} {ls : zLs} {rest : List zV} {h : zH} {r0 : Option Nat} : zK2 (runF G) d mX2_let pc (zcallTo d mX2_let 65 [zr r0] h ls rest) = if zsum rest ≤ 8 then (callF G d mX2_name [zr r0] h).bind (zback (runF G) d mX2_let pc ls rest) else none := zK_call2 (d' := d) rfl rfl (Nat.le_of_ble_eq_true rfl)
theorem cK_X2_let_X2_need {G : Nat → Option Nat} {d pc : Nat} {ls : zLs} {rest : List zV} {h : zH} {r0 : Option Nat} {x1 : Int32} : zK2 (runF G) d mX2_let pc (zcallTo d mX2_let 66 [zr r0, zi x1] h ls rest) = if zsum rest ≤ 8 then (callF G d mX2_need [zr r0, zi x1] h).bind (zback (runF G) d mX2_let pc ls rest) else none := zK_call2 (d' := d) rfl rfl (Nat.le_of_ble_eq_true rfl)
theorem cK_X2_let_X2_e {G : Nat → Option Nat} {d pc : Nat} {ls : zLs} {rest : List zV} {h : zH} {r0 : Option Nat} : zK2 (runF G) d mX2_let pc (zcallTo d mX2_let 68 [zr r0] h ls rest) = if zsum rest ≤ 8 then (callF G d mX2_e [zr r0] h).bind (zback (runF G) d mX2_let pc ls rest) else none := zK_call2 (d' := d) rfl rfl (Nat.le_of_ble_eq_true rfl)
theorem cK_X2_let_J2_size {G : Nat → Option Nat} {d pc : Nat} {ls : zLs} {rest : List zV} {h : zH} {r0 : Option Nat} : zK2 (runF G) d mX2_let pc (zcallTo d mX2_let 214 [zr r0] h ls rest) = if zsum rest ≤ 8 then (callF G d mJ2_size [zr r0] h).bind (zback (runF G) d mX2_let pc ls rest) else none := zK_call2 (d' := d) rfl rfl (Nat.le_of_ble_eq_true rfl)
theorem cK_X2_let_J2_add {G : Nat → Option Nat} {d pc : Nat} {ls : zLs} {rest : List zV} {h : zH} {r0 : Option Nat} {r1 : Option Nat} : zK2 (runF G) d mX2_let pc (zcallTo d mX2_let 215 [zr r0, zr r1] h ls rest) = if zsum rest ≤ 8 then (callF G d mJ2_add [zr r0, zr r1] h).bind (zback (runF G) d mX2_let pc ls rest) else none := zK_call2 (d' := d) rfl rfl (Nat.le_of_ble_eq_true rfl)
theorem cK_X2_let_J2_contains {G : Nat → Option Nat} {d pc : Nat} {ls : zLs} {rest : List zV} {h : zH} {r0 : Option Nat} {r1 : Option Nat} : zK2 (runF G) d mX2_let pc (zcallTo d mX2_let 221 [zr r0, zr r1] h ls rest) = if zsum rest ≤ 8 then (callF G d mJ2_contains [zr r0, zr r1] h).bind (zback (runF G) d mX2_let pc ls rest) else none := zK_call2 (d' := d) rfl rfl (Nat.le_of_ble_eq_true rfl)
theorem cK_X2_name_X2_which {G : Nat → Option Nat} {d pc : Nat} {ls : zLs} {rest : List zV} {h : zH} {r0 : Option Nat} {r1 : Option Nat} : zK2 (runF G) d mX2_name pc (zcallTo d mX2_name 62 [zr r0, zr r1] h ls rest) = if zsum rest ≤ 8 then (callF G d mX2_which [zr r0, zr r1] h).bind (zback (runF G) d mX2_name pc ls rest) else none := zK_call2 (d' := d) rfl rfl (Nat.le_of_ble_eq_true rfl)
theorem cK_X2_name_X2_wrong {G : Nat → Option Nat} {d pc : Nat} {ls : zLs} {rest : List zV} {h : zH} {r0 : Option Nat} {x1 : Int32} : zK2 (runF G) d mX2_name pc (zcallTo d mX2_name 63 [zr r0, zi x1] h ls rest) = if zsum rest ≤ 8 then (callF G d mX2_wrong [zr r0, zi x1] h).bind (zback (runF G) d mX2_name pc ls rest) else none := zK_call2 (d' := d) rfl rfl (Nat.le_of_ble_eq_true rfl)
theorem cK_X2_name_J16_init {G : Nat → Option Nat} {d pc : Nat} {ls : zLs} {rest : List zV} {h : zH} {r0 : Option Nat} {x1 : Int32} : zK2 (runF G) d mX2_name pc (zcallTo d mX2_name 297 [zr r0, zi x1] h ls rest) = if zsum rest ≤ 8 then (callF G d mJ16_init [zr r0, zi x1] h).bind (zback (runF G) d mX2_name pc ls rest) else none := zK_call2 (d' := d) rfl rfl (Nat.le_of_ble_eq_true rfl)
theorem cK_X2_name_J16_append {G : Nat → Option Nat} {d pc : Nat} {ls : zLs} {rest : List zV} {h : zH} {r0 : Option Nat} {x1 : Int32} : zK2 (runF G) d mX2_name pc (zcallTo d mX2_name 298 [zr r0, zi x1] h ls rest) = if zsum rest ≤ 8 then (callF G d mJ16_append [zr r0, zi x1] h).bind (zback (runF G) d mX2_name pc ls rest) else none := zK_call2 (d' := d) rfl rfl (Nat.le_of_ble_eq_true rfl)
theorem cK_X2_name_J16_toString {G : Nat → Option Nat} {d pc : Nat} {ls : zLs} {rest : List zV} {h : zH} {r0 : Option Nat} : zK2 (runF G) d mX2_name pc (zcallTo d mX2_name 299 [zr r0] h ls rest) = if zsum rest ≤ 8 then (callF G d mJ16_toString [zr r0] h).bind (zback (runF G) d mX2_name pc ls rest) else none := zK_call2 (d' := d) rfl rfl (Nat.le_of_ble_eq_true rfl)
theorem cK_X2_need_X2_next {G : Nat → Option Nat} {d pc : Nat} {ls : zLs} {rest : List zV} {h : zH} {r0 : Option Nat} : zK2 (runF G) d mX2_need pc (zcallTo d mX2_need 57 [zr r0] h ls rest) = if zsum rest ≤ 8 then (callF G d mX2_next [zr r0] h).bind (zback (runF G) d mX2_need pc ls rest) else none := zK_call2 (d' := d) rfl rfl (Nat.le_of_ble_eq_true rfl)
theorem cK_X2_need_X2_wrong {G : Nat → Option Nat} {d pc : Nat} {ls : zLs} {rest : List zV} {h : zH} {r0 : Option Nat} {x1 : Int32} : zK2 (runF G) d mX2_need pc (zcallTo d mX2_need 63 [zr r0, zi x1] h ls rest) = if zsum rest ≤ 8 then (callF G d mX2_wrong [zr r0, zi x1] h).bind (zback (runF G) d mX2_need pc ls rest) else none := zK_call2 (d' := d) rfl rfl (Nat.le_of_ble_eq_true rfl)
theorem cK_X2_need_X2_isSign {G : Nat → Option Nat} {d pc : Nat} {ls : zLs} {rest : List zV} {h : zH} {r0 : Option Nat} {x1 : Int32} : zK2 (runF G) d mX2_need pc (zcallTo d mX2_need 67 [zr r0, zi x1] h ls rest) = if zsum rest ≤ 8 then (callF G d mX2_isSign [zr r0, zi x1] h).bind (zback (runF G) d mX2_need pc ls rest) else none := zK_call2 (d' := d) rfl rfl (Nat.le_of_ble_eq_true rfl)
theorem cK_X2_e_X2_next {G : Nat → Option Nat} {d pc : Nat} {ls : zLs} {rest : List zV} {h : zH} {r0 : Option Nat} : zK2 (runF G) d mX2_e pc (zcallTo d mX2_e 57 [zr r0] h ls rest) = if zsum rest ≤ 8 then (callF G d mX2_next [zr r0] h).bind (zback (runF G) d mX2_e pc ls rest) else none := zK_call2 (d' := d) rfl rfl (Nat.le_of_ble_eq_true rfl)
theorem cK_X2_e_X2_which {G : Nat → Option Nat} {d pc : Nat} {ls : zLs} {rest : List zV} {h : zH} {r0 : Option Nat} {r1 : Option Nat} : zK2 (runF G) d mX2_e pc (zcallTo d mX2_e 62 [zr r0, zr r1] h ls rest) = if zsum rest ≤ 8 then (callF G d mX2_which [zr r0, zr r1] h).bind (zback (runF G) d mX2_e pc ls rest) else none := zK_call2 (d' := d) rfl rfl (Nat.le_of_ble_eq_true rfl)
theorem cK_X2_e_X2_test {G : Nat → Option Nat} {d pc : Nat} {ls : zLs} {rest : List zV} {h : zH} {r0 : Option Nat} : zK2 (runF G) d mX2_e pc (zcallTo d mX2_e 69 [zr r0] h ls rest) = if zsum rest ≤ 8 then (callF G d mX2_test [zr r0] h).bind (zback (runF G) d mX2_e pc ls rest) else none := zK_call2 (d' := d) rfl rfl (Nat.le_of_ble_eq_true rfl)
theorem cK_X2_e_X16_init {G : Nat → Option Nat} {d pc : Nat} {ls : zLs} {rest : List zV} {h : zH} {r0 : Option Nat} {r1 : Option Nat} : zK2 (runF G) d mX2_e pc (zcallTo d mX2_e 196 [zr r0, zr r1] h ls rest) = if zsum rest ≤ 8 then (callF G d mX16_init [zr r0, zr r1] h).bind (zback (runF G) d mX2_e pc ls rest) else none := zK_call2 (d' := d) rfl rfl (Nat.le_of_ble_eq_true rfl)
theorem cK_X2_e_X16_and {G : Nat → Option Nat} {d pc : Nat} {ls : zLs} {rest : List zV} {h : zH} {r0 : Option Nat} {x1 : Int32} {r2 : Option Nat} : zK2 (runF G) d mX2_e pc (zcallTo d mX2_e 197 [zr r0, zi x1, zr r2] h ls rest) = if zsum rest ≤ 8 then (callF G d mX16_and [zr r0, zi x1, zr r2] h).bind (zback (runF G) d mX2_e pc ls rest) else none := zK_call2 (d' := d) rfl rfl (Nat.le_of_ble_eq_true rfl)
theorem cK_X2_test_X2_next {G : Nat → Option Nat} {d pc : Nat} {ls : zLs} {rest : List zV} {h : zH} {r0 : Option Nat} : zK2 (runF G) d mX2_test pc (zcallTo d mX2_test 57 [zr r0] h ls rest) = if zsum rest ≤ 8 then (callF G d mX2_next [zr r0] h).bind (zback (runF G) d mX2_test pc ls rest) else none := zK_call2 (d' := d) rfl rfl (Nat.le_of_ble_eq_true rfl)
theorem cK_X2_test_X2_isSign {G : Nat → Option Nat} {d pc : Nat} {ls : zLs} {rest : List zV} {h : zH} {r0 : Option Nat} {x1 : Int32} : zK2 (runF G) d mX2_test pc (zcallTo d mX2_test 67 [zr r0, zi x1] h ls rest) = if zsum rest ≤ 8 then (callF G d mX2_isSign [zr r0, zi x1] h).bind (zback (runF G) d mX2_test pc ls rest) else none := zK_call2 (d' := d) rfl rfl (Nat.le_of_ble_eq_true rfl)
theorem cK_X2_test_X2_sum {G : Nat → Option Nat} {d pc : Nat} {ls : zLs} {rest : List zV} {h : zH} {r0 : Option Nat} : zK2 (runF G) d mX2_test pc (zcallTo d mX2_test 70 [zr r0] h ls rest) = if zsum rest ≤ 8 then (callF G d mX2_sum [zr r0] h).bind (zback (runF G) d mX2_test pc ls rest) else none := zK_call2 (d' := d) rfl rfl (Nat.le_of_ble_eq_true rfl)
theorem cK_X2_test_X16_init {G : Nat → Option Nat} {d pc : Nat} {ls : zLs} {rest : List zV} {h : zH} {r0 : Option Nat} {r1 : Option Nat} : zK2 (runF G) d mX2_test pc (zcallTo d mX2_test 196 [zr r0, zr r1] h ls rest) = if zsum rest ≤ 8 then (callF G d mX16_init [zr r0, zr r1] h).bind (zback (runF G) d mX2_test pc ls rest) else none := zK_call2 (d' := d) rfl rfl (Nat.le_of_ble_eq_true rfl)
theorem cK_X2_test_X16_and {G : Nat → Option Nat} {d pc : Nat} {ls : zLs} {rest : List zV} {h : zH} {r0 : Option Nat} {x1 : Int32} {r2 : Option Nat} : zK2 (runF G) d mX2_test pc (zcallTo d mX2_test 197 [zr r0, zi x1, zr r2] h ls rest) = if zsum rest ≤ 8 then (callF G d mX16_and [zr r0, zi x1, zr r2] h).bind (zback (runF G) d mX2_test pc ls rest) else none := zK_call2 (d' := d) rfl rfl (Nat.le_of_ble_eq_true rfl)
theorem cK_X2_sum_X2_next {G : Nat → Option Nat} {d pc : Nat} {ls : zLs} {rest : List zV} {h : zH} {r0 : Option Nat} : zK2 (runF G) d mX2_sum pc (zcallTo d mX2_sum 57 [zr r0] h ls rest) = if zsum rest ≤ 8 then (callF G d mX2_next [zr r0] h).bind (zback (runF G) d mX2_sum pc ls rest) else none := zK_call2 (d' := d) rfl rfl (Nat.le_of_ble_eq_true rfl)
theorem cK_X2_sum_X2_isSign {G : Nat → Option Nat} {d pc : Nat} {ls : zLs} {rest : List zV} {h : zH} {r0 : Option Nat} {x1 : Int32} : zK2 (runF G) d mX2_sum pc (zcallTo d mX2_sum 67 [zr r0, zi x1] h ls rest) = if zsum rest ≤ 8 then (callF G d mX2_isSign [zr r0, zi x1] h).bind (zback (runF G) d mX2_sum pc ls rest) else none := zK_call2 (d' := d) rfl rfl (Nat.le_of_ble_eq_true rfl)
theorem cK_X2_sum_X2_term {G : Nat → Option Nat} {d pc : Nat} {ls : zLs} {rest : List zV} {h : zH} {r0 : Option Nat} : zK2 (runF G) d mX2_sum pc (zcallTo d mX2_sum 71 [zr r0] h ls rest) = if zsum rest ≤ 8 then (callF G d mX2_term [zr r0] h).bind (zback (runF G) d mX2_sum pc ls rest) else none := zK_call2 (d' := d) rfl rfl (Nat.le_of_ble_eq_true rfl)
theorem cK_X2_sum_X16_init {G : Nat → Option Nat} {d pc : Nat} {ls : zLs} {rest : List zV} {h : zH} {r0 : Option Nat} {r1 : Option Nat} : zK2 (runF G) d mX2_sum pc (zcallTo d mX2_sum 196 [zr r0, zr r1] h ls rest) = if zsum rest ≤ 8 then (callF G d mX16_init [zr r0, zr r1] h).bind (zback (runF G) d mX2_sum pc ls rest) else none := zK_call2 (d' := d) rfl rfl (Nat.le_of_ble_eq_true rfl)
theorem cK_X2_sum_X16_and {G : Nat → Option Nat} {d pc : Nat} {ls : zLs} {rest : List zV} {h : zH} {r0 : Option Nat} {x1 : Int32} {r2 : Option Nat} : zK2 (runF G) d mX2_sum pc (zcallTo d mX2_sum 197 [zr r0, zi x1, zr r2] h ls rest) = if zsum rest ≤ 8 then (callF G d mX16_and [zr r0, zi x1, zr r2] h).bind (zback (runF G) d mX2_sum pc ls rest) else none := zK_call2 (d' := d) rfl rfl (Nat.le_of_ble_eq_true rfl)
theorem cK_X2_term_X2_next {G : Nat → Option Nat} {d pc : Nat} {ls : zLs} {rest : List zV} {h : zH} {r0 : Option Nat} : zK2 (runF G) d mX2_term pc (zcallTo d mX2_term 57 [zr r0] h ls rest) = if zsum rest ≤ 8 then (callF G d mX2_next [zr r0] h).bind (zback (runF G) d mX2_term pc ls rest) else none := zK_call2 (d' := d) rfl rfl (Nat.le_of_ble_eq_true rfl)
theorem cK_X2_term_X2_isSign {G : Nat → Option Nat} {d pc : Nat} {ls : zLs} {rest : List zV} {h : zH} {r0 : Option Nat} {x1 : Int32} : zK2 (runF G) d mX2_term pc (zcallTo d mX2_term 67 [zr r0, zi x1] h ls rest) = if zsum rest ≤ 8 then (callF G d mX2_isSign [zr r0, zi x1] h).bind (zback (runF G) d mX2_term pc ls rest) else none := zK_call2 (d' := d) rfl rfl (Nat.le_of_ble_eq_true rfl)
theorem cK_X2_term_X2_part {G : Nat → Option Nat} {d pc : Nat} {ls : zLs} {rest : List zV} {h : zH} {r0 : Option Nat} : zK2 (runF G) d mX2_term pc (zcallTo d mX2_term 72 [zr r0] h ls rest) = if zsum rest ≤ 8 then (callF G d mX2_part [zr r0] h).bind (zback (runF G) d mX2_term pc ls rest) else none := zK_call2 (d' := d) rfl rfl (Nat.le_of_ble_eq_true rfl)
theorem cK_X2_term_X16_init {G : Nat → Option Nat} {d pc : Nat} {ls : zLs} {rest : List zV} {h : zH} {r0 : Option Nat} {r1 : Option Nat} : zK2 (runF G) d mX2_term pc (zcallTo d mX2_term 196 [zr r0, zr r1] h ls rest) = if zsum rest ≤ 8 then (callF G d mX16_init [zr r0, zr r1] h).bind (zback (runF G) d mX2_term pc ls rest) else none := zK_call2 (d' := d) rfl rfl (Nat.le_of_ble_eq_true rfl)
theorem cK_X2_term_X16_and {G : Nat → Option Nat} {d pc : Nat} {ls : zLs} {rest : List zV} {h : zH} {r0 : Option Nat} {x1 : Int32} {r2 : Option Nat} : zK2 (runF G) d mX2_term pc (zcallTo d mX2_term 197 [zr r0, zi x1, zr r2] h ls rest) = if zsum rest ≤ 8 then (callF G d mX16_and [zr r0, zi x1, zr r2] h).bind (zback (runF G) d mX2_term pc ls rest) else none := zK_call2 (d' := d) rfl rfl (Nat.le_of_ble_eq_true rfl)
theorem cK_X2_part_X2_next {G : Nat → Option Nat} {d pc : Nat} {ls : zLs} {rest : List zV} {h : zH} {r0 : Option Nat} : zK2 (runF G) d mX2_part pc (zcallTo d mX2_part 57 [zr r0] h ls rest) = if zsum rest ≤ 8 then (callF G d mX2_next [zr r0] h).bind (zback (runF G) d mX2_part pc ls rest) else none := zK_call2 (d' := d) rfl rfl (Nat.le_of_ble_eq_true rfl)
theorem cK_X2_part_X2_which {G : Nat → Option Nat} {d pc : Nat} {ls : zLs} {rest : List zV} {h : zH} {r0 : Option Nat} {r1 : Option Nat} : zK2 (runF G) d mX2_part pc (zcallTo d mX2_part 62 [zr r0, zr r1] h ls rest) = if zsum rest ≤ 8 then (callF G d mX2_which [zr r0, zr r1] h).bind (zback (runF G) d mX2_part pc ls rest) else none := zK_call2 (d' := d) rfl rfl (Nat.le_of_ble_eq_true rfl)
theorem cK_X2_part_X2_wrong {G : Nat → Option Nat} {d pc : Nat} {ls : zLs} {rest : List zV} {h : zH} {r0 : Option Nat} {x1 : Int32} : zK2 (runF G) d mX2_part pc (zcallTo d mX2_part 63 [zr r0, zi x1] h ls rest) = if zsum rest ≤ 8 then (callF G d mX2_wrong [zr r0, zi x1] h).bind (zback (runF G) d mX2_part pc ls rest) else none := zK_call2 (d' := d) rfl rfl (Nat.le_of_ble_eq_true rfl)
theorem cK_X2_part_X2_name {G : Nat → Option Nat} {d pc : Nat} {ls : zLs} {rest : List zV} {h : zH} {r0 : Option Nat} : zK2 (runF G) d mX2_part pc (zcallTo d mX2_part 65 [zr r0] h ls rest) = if zsum rest ≤ 8 then (callF G d mX2_name [zr r0] h).bind (zback (runF G) d mX2_part pc ls rest) else none := zK_call2 (d' := d) rfl rfl (Nat.le_of_ble_eq_true rfl)
theorem cK_X2_part_X2_need {G : Nat → Option Nat} {d pc : Nat} {ls : zLs} {rest : List zV} {h : zH} {r0 : Option Nat} {x1 : Int32} : zK2 (runF G) d mX2_part pc (zcallTo d mX2_part 66 [zr r0, zi x1] h ls rest) = if zsum rest ≤ 8 then (callF G d mX2_need [zr r0, zi x1] h).bind (zback (runF G) d mX2_part pc ls rest) else none := zK_call2 (d' := d) rfl rfl (Nat.le_of_ble_eq_true rfl)
theorem cK_X2_part_X2_isSign {G : Nat → Option Nat} {d pc : Nat} {ls : zLs} {rest : List zV} {h : zH} {r0 : Option Nat} {x1 : Int32} : zK2 (runF G) d mX2_part pc (zcallTo d mX2_part 67 [zr r0, zi x1] h ls rest) = if zsum rest ≤ 8 then (callF G d mX2_isSign [zr r0, zi x1] h).bind (zback (runF G) d mX2_part pc ls rest) else none := zK_call2 (d' := d) rfl rfl (Nat.le_of_ble_eq_true rfl)
theorem cK_X2_part_X2_e {G : Nat → Option Nat} {d pc : Nat} {ls : zLs} {rest : List zV} {h : zH} {r0 : Option Nat} : zK2 (runF G) (d + 1) mX2_part pc (zcallTo (d + 1) mX2_part 68 [zr r0] h ls rest) = if zsum rest ≤ 8 then (callF G d mX2_e [zr r0] h).bind (zback (runF G) (d + 1) mX2_part pc ls rest) else none := zK_call2 (d' := d) rfl rfl (Nat.le_of_ble_eq_true rfl)
theorem cK_X2_part_X2_part {G : Nat → Option Nat} {d pc : Nat} {ls : zLs} {rest : List zV} {h : zH} {r0 : Option Nat} : zK2 (runF G) (d + 1) mX2_part pc (zcallTo (d + 1) mX2_part 72 [zr r0] h ls rest) = if zsum rest ≤ 8 then (callF G d mX2_part [zr r0] h).bind (zback (runF G) (d + 1) mX2_part pc ls rest) else none := zK_call2 (d' := d) rfl rfl (Nat.le_of_ble_eq_true rfl)
theorem cK_X2_part_X2_number {G : Nat → Option Nat} {d pc : Nat} {ls : zLs} {rest : List zV} {h : zH} {r0 : Option Nat} {x1 : Int32} {x2 : Int32} : zK2 (runF G) d mX2_part pc (zcallTo d mX2_part 73 [zr r0, zi x1, zi x2] h ls rest) = if zsum rest ≤ 8 then (callF G d mX2_number [zr r0, zi x1, zi x2] h).bind (zback (runF G) d mX2_part pc ls rest) else none := zK_call2 (d' := d) rfl rfl (Nat.le_of_ble_eq_true rfl)
theorem cK_X2_part_X12_init {G : Nat → Option Nat} {d pc : Nat} {ls : zLs} {rest : List zV} {h : zH} {r0 : Option Nat} {x1 : Int32} : zK2 (runF G) d mX2_part pc (zcallTo d mX2_part 188 [zr r0, zi x1] h ls rest) = if zsum rest ≤ 8 then (callF G d mX12_init [zr r0, zi x1] h).bind (zback (runF G) d mX2_part pc ls rest) else none := zK_call2 (d' := d) rfl rfl (Nat.le_of_ble_eq_true rfl)
theorem cK_X2_part_X13_init {G : Nat → Option Nat} {d pc : Nat} {ls : zLs} {rest : List zV} {h : zH} {r0 : Option Nat} {x1 : Int32} : zK2 (runF G) d mX2_part pc (zcallTo d mX2_part 190 [zr r0, zi x1] h ls rest) = if zsum rest ≤ 8 then (callF G d mX13_init [zr r0, zi x1] h).bind (zback (runF G) d mX2_part pc ls rest) else none := zK_call2 (d' := d) rfl rfl (Nat.le_of_ble_eq_true rfl)
theorem cK_X2_part_X14_init {G : Nat → Option Nat} {d pc : Nat} {ls : zLs} {rest : List zV} {h : zH} {r0 : Option Nat} {x1 : Int32} : zK2 (runF G) d mX2_part pc (zcallTo d mX2_part 192 [zr r0, zi x1] h ls rest) = if zsum rest ≤ 8 then (callF G d mX14_init [zr r0, zi x1] h).bind (zback (runF G) d mX2_part pc ls rest) else none := zK_call2 (d' := d) rfl rfl (Nat.le_of_ble_eq_true rfl)
theorem cK_X2_part_X15_init {G : Nat → Option Nat} {d pc : Nat} {ls : zLs} {rest : List zV} {h : zH} {r0 : Option Nat} {r1 : Option Nat} : zK2 (runF G) d mX2_part pc (zcallTo d mX2_part 194 [zr r0, zr r1] h ls rest) = if zsum rest ≤ 8 then (callF G d mX15_init [zr r0, zr r1] h).bind (zback (runF G) d mX2_part pc ls rest) else none := zK_call2 (d' := d) rfl rfl (Nat.le_of_ble_eq_true rfl)
theorem cK_X2_part_J2_indexOf {G : Nat → Option Nat} {d pc : Nat} {ls : zLs} {rest : List zV} {h : zH} {r0 : Option Nat} {r1 : Option Nat} : zK2 (runF G) d mX2_part pc (zcallTo d mX2_part 222 [zr r0, zr r1] h ls rest) = if zsum rest ≤ 8 then (callF G d mJ2_indexOf [zr r0, zr r1] h).bind (zback (runF G) d mX2_part pc ls rest) else none := zK_call2 (d' := d) rfl rfl (Nat.le_of_ble_eq_true rfl)
theorem cK_X2_number_X2_next {G : Nat → Option Nat} {d pc : Nat} {ls : zLs} {rest : List zV} {h : zH} {r0 : Option Nat} : zK2 (runF G) d mX2_number pc (zcallTo d mX2_number 57 [zr r0] h ls rest) = if zsum rest ≤ 8 then (callF G d mX2_next [zr r0] h).bind (zback (runF G) d mX2_number pc ls rest) else none := zK_call2 (d' := d) rfl rfl (Nat.le_of_ble_eq_true rfl)
theorem cK_X2_number_X2_wrong {G : Nat → Option Nat} {d pc : Nat} {ls : zLs} {rest : List zV} {h : zH} {r0 : Option Nat} {x1 : Int32} : zK2 (runF G) d mX2_number pc (zcallTo d mX2_number 63 [zr r0, zi x1] h ls rest) = if zsum rest ≤ 8 then (callF G d mX2_wrong [zr r0, zi x1] h).bind (zback (runF G) d mX2_number pc ls rest) else none := zK_call2 (d' := d) rfl rfl (Nat.le_of_ble_eq_true rfl)
theorem cK_X2_need_2_X2_wrong {G : Nat → Option Nat} {d pc : Nat} {ls : zLs} {rest : List zV} {h : zH} {r0 : Option Nat} {x1 : Int32} : zK2 (runF G) d mX2_need_2 pc (zcallTo d mX2_need_2 63 [zr r0, zi x1] h ls rest) = if zsum rest ≤ 8 then (callF G d mX2_wrong [zr r0, zi x1] h).bind (zback (runF G) d mX2_need_2 pc ls rest) else none := zK_call2 (d' := d) rfl rfl (Nat.le_of_ble_eq_true rfl)
theorem cK_X2_need_2_X2_meets {G : Nat → Option Nat} {d pc : Nat} {ls : zLs} {rest : List zV} {h : zH} {r0 : Option Nat} {r1 : Option Nat} : zK2 (runF G) d mX2_need_2 pc (zcallTo d mX2_need_2 75 [zr r0, zr r1] h ls rest) = if zsum rest ≤ 8 then (callF G d mX2_meets [zr r0, zr r1] h).bind (zback (runF G) d mX2_need_2 pc ls rest) else none := zK_call2 (d' := d) rfl rfl (Nat.le_of_ble_eq_true rfl)
theorem cK_X2_meets_X2_next {G : Nat → Option Nat} {d pc : Nat} {ls : zLs} {rest : List zV} {h : zH} {r0 : Option Nat} : zK2 (runF G) d mX2_meets pc (zcallTo d mX2_meets 57 [zr r0] h ls rest) = if zsum rest ≤ 8 then (callF G d mX2_next [zr r0] h).bind (zback (runF G) d mX2_meets pc ls rest) else none := zK_call2 (d' := d) rfl rfl (Nat.le_of_ble_eq_true rfl)
theorem cK_X2_meets_X2_which {G : Nat → Option Nat} {d pc : Nat} {ls : zLs} {rest : List zV} {h : zH} {r0 : Option Nat} {r1 : Option Nat} : zK2 (runF G) d mX2_meets pc (zcallTo d mX2_meets 62 [zr r0, zr r1] h ls rest) = if zsum rest ≤ 8 then (callF G d mX2_which [zr r0, zr r1] h).bind (zback (runF G) d mX2_meets pc ls rest) else none := zK_call2 (d' := d) rfl rfl (Nat.le_of_ble_eq_true rfl)
theorem cK_X3_be_J17_bitCount {G : Nat → Option Nat} {d pc : Nat} {ls : zLs} {rest : List zV} {h : zH} {x0 : Int32} : zK2 (runF G) d mX3_be pc (zcallTo d mX3_be 302 [zi x0] h ls rest) = if zsum rest ≤ 8 then (callF G d mJ17_bitCount [zi x0] h).bind (zback (runF G) d mX3_be pc ls rest) else none := zK_call2 (d' := d) rfl rfl (Nat.le_of_ble_eq_true rfl)
theorem cK_X4_feed_X4_lay {G : Nat → Option Nat} {d pc : Nat} {ls : zLs} {rest : List zV} {h : zH} {r0 : Option Nat} {z1 : Int64} : zK2 (runF G) d mX4_feed pc (zcallTo d mX4_feed 80 [zr r0, zl z1] h ls rest) = if zsum rest ≤ 8 then (callF G d mX4_lay [zr r0, zl z1] h).bind (zback (runF G) d mX4_feed pc ls rest) else none := zK_call2 (d' := d) rfl rfl (Nat.le_of_ble_eq_true rfl)
theorem cK_X4_brief_X4_cutAll {G : Nat → Option Nat} {d pc : Nat} {ls : zLs} {rest : List zV} {h : zH} {r0 : Option Nat} : zK2 (runF G) d mX4_brief pc (zcallTo d mX4_brief 83 [zr r0] h ls rest) = if zsum rest ≤ 8 then (callF G d mX4_cutAll [zr r0] h).bind (zback (runF G) d mX4_brief pc ls rest) else none := zK_call2 (d' := d) rfl rfl (Nat.le_of_ble_eq_true rfl)
theorem cK_X4_brief_X4_readLine {G : Nat → Option Nat} {d pc : Nat} {ls : zLs} {rest : List zV} {h : zH} {r0 : Option Nat} : zK2 (runF G) d mX4_brief pc (zcallTo d mX4_brief 88 [zr r0] h ls rest) = if zsum rest ≤ 8 then (callF G d mX4_readLine [zr r0] h).bind (zback (runF G) d mX4_brief pc ls rest) else none := zK_call2 (d' := d) rfl rfl (Nat.le_of_ble_eq_true rfl)
theorem cK_X4_brief_X4_keeps {G : Nat → Option Nat} {d pc : Nat} {ls : zLs} {rest : List zV} {h : zH} {r0 : Option Nat} {x1 : Int32} {x2 : Int32} : zK2 (runF G) d mX4_brief pc (zcallTo d mX4_brief 107 [zr r0, zi x1, zi x2] h ls rest) = if zsum rest ≤ 8 then (callF G d mX4_keeps [zr r0, zi x1, zi x2] h).bind (zback (runF G) d mX4_brief pc ls rest) else none := zK_call2 (d' := d) rfl rfl (Nat.le_of_ble_eq_true rfl)
theorem cK_X4_cutAll_X4_isLetter {G : Nat → Option Nat} {d pc : Nat} {ls : zLs} {rest : List zV} {h : zH} {x0 : Int32} : zK2 (runF G) d mX4_cutAll pc (zcallTo d mX4_cutAll 84 [zi x0] h ls rest) = if zsum rest ≤ 8 then (callF G d mX4_isLetter [zi x0] h).bind (zback (runF G) d mX4_cutAll pc ls rest) else none := zK_call2 (d' := d) rfl rfl (Nat.le_of_ble_eq_true rfl)
theorem cK_X4_cutAll_X4_rank {G : Nat → Option Nat} {d pc : Nat} {ls : zLs} {rest : List zV} {h : zH} {x0 : Int32} : zK2 (runF G) d mX4_cutAll pc (zcallTo d mX4_cutAll 85 [zi x0] h ls rest) = if zsum rest ≤ 8 then (callF G d mX4_rank [zi x0] h).bind (zback (runF G) d mX4_cutAll pc ls rest) else none := zK_call2 (d' := d) rfl rfl (Nat.le_of_ble_eq_true rfl)
theorem cK_X4_cutAll_X4_isDigit {G : Nat → Option Nat} {d pc : Nat} {ls : zLs} {rest : List zV} {h : zH} {x0 : Int32} : zK2 (runF G) d mX4_cutAll pc (zcallTo d mX4_cutAll 86 [zi x0] h ls rest) = if zsum rest ≤ 8 then (callF G d mX4_isDigit [zi x0] h).bind (zback (runF G) d mX4_cutAll pc ls rest) else none := zK_call2 (d' := d) rfl rfl (Nat.le_of_ble_eq_true rfl)
theorem cK_X4_cutAll_X4_isSignOf {G : Nat → Option Nat} {d pc : Nat} {ls : zLs} {rest : List zV} {h : zH} {x0 : Int32} : zK2 (runF G) d mX4_cutAll pc (zcallTo d mX4_cutAll 87 [zi x0] h ls rest) = if zsum rest ≤ 8 then (callF G d mX4_isSignOf [zi x0] h).bind (zback (runF G) d mX4_cutAll pc ls rest) else none := zK_call2 (d' := d) rfl rfl (Nat.le_of_ble_eq_true rfl)
theorem cK_X4_rank_X4_isLetter {G : Nat → Option Nat} {d pc : Nat} {ls : zLs} {rest : List zV} {h : zH} {x0 : Int32} : zK2 (runF G) d mX4_rank pc (zcallTo d mX4_rank 84 [zi x0] h ls rest) = if zsum rest ≤ 8 then (callF G d mX4_isLetter [zi x0] h).bind (zback (runF G) d mX4_rank pc ls rest) else none := zK_call2 (d' := d) rfl rfl (Nat.le_of_ble_eq_true rfl)
theorem cK_X4_readLine_X4_isWord {G : Nat → Option Nat} {d pc : Nat} {ls : zLs} {rest : List zV} {h : zH} {r0 : Option Nat} {x1 : Int32} : zK2 (runF G) d mX4_readLine pc (zcallTo d mX4_readLine 89 [zr r0, zi x1] h ls rest) = if zsum rest ≤ 8 then (callF G d mX4_isWord [zr r0, zi x1] h).bind (zback (runF G) d mX4_readLine pc ls rest) else none := zK_call2 (d' := d) rfl rfl (Nat.le_of_ble_eq_true rfl)
theorem cK_X4_readLine_X4_wrong {G : Nat → Option Nat} {d pc : Nat} {ls : zLs} {rest : List zV} {h : zH} {r0 : Option Nat} {x1 : Int32} : zK2 (runF G) d mX4_readLine pc (zcallTo d mX4_readLine 90 [zr r0, zi x1] h ls rest) = if zsum rest ≤ 8 then (callF G d mX4_wrong [zr r0, zi x1] h).bind (zback (runF G) d mX4_readLine pc ls rest) else none := zK_call2 (d' := d) rfl rfl (Nat.le_of_ble_eq_true rfl)
theorem cK_X4_readLine_X4_readLet {G : Nat → Option Nat} {d pc : Nat} {ls : zLs} {rest : List zV} {h : zH} {r0 : Option Nat} {x1 : Int32} : zK2 (runF G) d mX4_readLine pc (zcallTo d mX4_readLine 91 [zr r0, zi x1] h ls rest) = if zsum rest ≤ 8 then (callF G d mX4_readLet [zr r0, zi x1] h).bind (zback (runF G) d mX4_readLine pc ls rest) else none := zK_call2 (d' := d) rfl rfl (Nat.le_of_ble_eq_true rfl)
theorem cK_X4_readLine_X4_takeSign {G : Nat → Option Nat} {d pc : Nat} {ls : zLs} {rest : List zV} {h : zH} {r0 : Option Nat} {x1 : Int32} : zK2 (runF G) d mX4_readLine pc (zcallTo d mX4_readLine 94 [zr r0, zi x1] h ls rest) = if zsum rest ≤ 8 then (callF G d mX4_takeSign [zr r0, zi x1] h).bind (zback (runF G) d mX4_readLine pc ls rest) else none := zK_call2 (d' := d) rfl rfl (Nat.le_of_ble_eq_true rfl)
theorem cK_X4_readLine_X4_readTests {G : Nat → Option Nat} {d pc : Nat} {ls : zLs} {rest : List zV} {h : zH} {r0 : Option Nat} : zK2 (runF G) d mX4_readLine pc (zcallTo d mX4_readLine 96 [zr r0] h ls rest) = if zsum rest ≤ 8 then (callF G d mX4_readTests [zr r0] h).bind (zback (runF G) d mX4_readLine pc ls rest) else none := zK_call2 (d' := d) rfl rfl (Nat.le_of_ble_eq_true rfl)
theorem cK_X4_readLine_X4_takeNumber {G : Nat → Option Nat} {d pc : Nat} {ls : zLs} {rest : List zV} {h : zH} {r0 : Option Nat} {x1 : Int32} : zK2 (runF G) d mX4_readLine pc (zcallTo d mX4_readLine 104 [zr r0, zi x1] h ls rest) = if zsum rest ≤ 8 then (callF G d mX4_takeNumber [zr r0, zi x1] h).bind (zback (runF G) d mX4_readLine pc ls rest) else none := zK_call2 (d' := d) rfl rfl (Nat.le_of_ble_eq_true rfl)
theorem cK_X4_readLine_X4_takeWord {G : Nat → Option Nat} {d pc : Nat} {ls : zLs} {rest : List zV} {h : zH} {r0 : Option Nat} {x1 : Int32} : zK2 (runF G) d mX4_readLine pc (zcallTo d mX4_readLine 106 [zr r0, zi x1] h ls rest) = if zsum rest ≤ 8 then (callF G d mX4_takeWord [zr r0, zi x1] h).bind (zback (runF G) d mX4_readLine pc ls rest) else none := zK_call2 (d' := d) rfl rfl (Nat.le_of_ble_eq_true rfl)
theorem cK_X4_readLet_X4_wrong {G : Nat → Option Nat} {d pc : Nat} {ls : zLs} {rest : List zV} {h : zH} {r0 : Option Nat} {x1 : Int32} : zK2 (runF G) d mX4_readLet pc (zcallTo d mX4_readLet 90 [zr r0, zi x1] h ls rest) = if zsum rest ≤ 8 then (callF G d mX4_wrong [zr r0, zi x1] h).bind (zback (runF G) d mX4_readLet pc ls rest) else none := zK_call2 (d' := d) rfl rfl (Nat.le_of_ble_eq_true rfl)
theorem cK_X4_readLet_X4_isName {G : Nat → Option Nat} {d pc : Nat} {ls : zLs} {rest : List zV} {h : zH} {r0 : Option Nat} : zK2 (runF G) d mX4_readLet pc (zcallTo d mX4_readLet 92 [zr r0] h ls rest) = if zsum rest ≤ 8 then (callF G d mX4_isName [zr r0] h).bind (zback (runF G) d mX4_readLet pc ls rest) else none := zK_call2 (d' := d) rfl rfl (Nat.le_of_ble_eq_true rfl)
theorem cK_X4_readLet_X4_findName {G : Nat → Option Nat} {d pc : Nat} {ls : zLs} {rest : List zV} {h : zH} {r0 : Option Nat} : zK2 (runF G) d mX4_readLet pc (zcallTo d mX4_readLet 93 [zr r0] h ls rest) = if zsum rest ≤ 8 then (callF G d mX4_findName [zr r0] h).bind (zback (runF G) d mX4_readLet pc ls rest) else none := zK_call2 (d' := d) rfl rfl (Nat.le_of_ble_eq_true rfl)
theorem cK_X4_readLet_X4_takeSign {G : Nat → Option Nat} {d pc : Nat} {ls : zLs} {rest : List zV} {h : zH} {r0 : Option Nat} {x1 : Int32} : zK2 (runF G) d mX4_readLet pc (zcallTo d mX4_readLet 94 [zr r0, zi x1] h ls rest) = if zsum rest ≤ 8 then (callF G d mX4_takeSign [zr r0, zi x1] h).bind (zback (runF G) d mX4_readLet pc ls rest) else none := zK_call2 (d' := d) rfl rfl (Nat.le_of_ble_eq_true rfl)
theorem cK_X4_readLet_X4_readTests {G : Nat → Option Nat} {d pc : Nat} {ls : zLs} {rest : List zV} {h : zH} {r0 : Option Nat} : zK2 (runF G) d mX4_readLet pc (zcallTo d mX4_readLet 96 [zr r0] h ls rest) = if zsum rest ≤ 8 then (callF G d mX4_readTests [zr r0] h).bind (zback (runF G) d mX4_readLet pc ls rest) else none := zK_call2 (d' := d) rfl rfl (Nat.le_of_ble_eq_true rfl)
theorem cK_X4_takeSign_X4_wrong {G : Nat → Option Nat} {d pc : Nat} {ls : zLs} {rest : List zV} {h : zH} {r0 : Option Nat} {x1 : Int32} : zK2 (runF G) d mX4_takeSign pc (zcallTo d mX4_takeSign 90 [zr r0, zi x1] h ls rest) = if zsum rest ≤ 8 then (callF G d mX4_wrong [zr r0, zi x1] h).bind (zback (runF G) d mX4_takeSign pc ls rest) else none := zK_call2 (d' := d) rfl rfl (Nat.le_of_ble_eq_true rfl)
theorem cK_X4_takeSign_X4_isSign {G : Nat → Option Nat} {d pc : Nat} {ls : zLs} {rest : List zV} {h : zH} {r0 : Option Nat} {x1 : Int32} : zK2 (runF G) d mX4_takeSign pc (zcallTo d mX4_takeSign 95 [zr r0, zi x1] h ls rest) = if zsum rest ≤ 8 then (callF G d mX4_isSign [zr r0, zi x1] h).bind (zback (runF G) d mX4_takeSign pc ls rest) else none := zK_call2 (d' := d) rfl rfl (Nat.le_of_ble_eq_true rfl)
theorem cK_X4_readTests_X4_all {G : Nat → Option Nat} {d pc : Nat} {ls : zLs} {rest : List zV} {h : zH} {r0 : Option Nat} {x1 : Int32} : zK2 (runF G) d mX4_readTests pc (zcallTo d mX4_readTests 97 [zr r0, zi x1] h ls rest) = if zsum rest ≤ 8 then (callF G d mX4_all [zr r0, zi x1] h).bind (zback (runF G) d mX4_readTests pc ls rest) else none := zK_call2 (d' := d) rfl rfl (Nat.le_of_ble_eq_true rfl)
theorem cK_X4_readTests_X4_emit {G : Nat → Option Nat} {d pc : Nat} {ls : zLs} {rest : List zV} {h : zH} {r0 : Option Nat} {x1 : Int32} {x2 : Int32} : zK2 (runF G) d mX4_readTests pc (zcallTo d mX4_readTests 103 [zr r0, zi x1, zi x2] h ls rest) = if zsum rest ≤ 8 then (callF G d mX4_emit [zr r0, zi x1, zi x2] h).bind (zback (runF G) d mX4_readTests pc ls rest) else none := zK_call2 (d' := d) rfl rfl (Nat.le_of_ble_eq_true rfl)
theorem cK_X4_all_X4_isWord {G : Nat → Option Nat} {d pc : Nat} {ls : zLs} {rest : List zV} {h : zH} {r0 : Option Nat} {x1 : Int32} : zK2 (runF G) d mX4_all pc (zcallTo d mX4_all 89 [zr r0, zi x1] h ls rest) = if zsum rest ≤ 8 then (callF G d mX4_isWord [zr r0, zi x1] h).bind (zback (runF G) d mX4_all pc ls rest) else none := zK_call2 (d' := d) rfl rfl (Nat.le_of_ble_eq_true rfl)
theorem cK_X4_all_X4_test {G : Nat → Option Nat} {d pc : Nat} {ls : zLs} {rest : List zV} {h : zH} {r0 : Option Nat} {x1 : Int32} : zK2 (runF G) d mX4_all pc (zcallTo d mX4_all 98 [zr r0, zi x1] h ls rest) = if zsum rest ≤ 8 then (callF G d mX4_test [zr r0, zi x1] h).bind (zback (runF G) d mX4_all pc ls rest) else none := zK_call2 (d' := d) rfl rfl (Nat.le_of_ble_eq_true rfl)
theorem cK_X4_all_X4_emit {G : Nat → Option Nat} {d pc : Nat} {ls : zLs} {rest : List zV} {h : zH} {r0 : Option Nat} {x1 : Int32} {x2 : Int32} : zK2 (runF G) d mX4_all pc (zcallTo d mX4_all 103 [zr r0, zi x1, zi x2] h ls rest) = if zsum rest ≤ 8 then (callF G d mX4_emit [zr r0, zi x1, zi x2] h).bind (zback (runF G) d mX4_all pc ls rest) else none := zK_call2 (d' := d) rfl rfl (Nat.le_of_ble_eq_true rfl)
theorem cK_X4_test_X4_isSign {G : Nat → Option Nat} {d pc : Nat} {ls : zLs} {rest : List zV} {h : zH} {r0 : Option Nat} {x1 : Int32} : zK2 (runF G) d mX4_test pc (zcallTo d mX4_test 95 [zr r0, zi x1] h ls rest) = if zsum rest ≤ 8 then (callF G d mX4_isSign [zr r0, zi x1] h).bind (zback (runF G) d mX4_test pc ls rest) else none := zK_call2 (d' := d) rfl rfl (Nat.le_of_ble_eq_true rfl)
theorem cK_X4_test_X4_sums {G : Nat → Option Nat} {d pc : Nat} {ls : zLs} {rest : List zV} {h : zH} {r0 : Option Nat} {x1 : Int32} : zK2 (runF G) d mX4_test pc (zcallTo d mX4_test 99 [zr r0, zi x1] h ls rest) = if zsum rest ≤ 8 then (callF G d mX4_sums [zr r0, zi x1] h).bind (zback (runF G) d mX4_test pc ls rest) else none := zK_call2 (d' := d) rfl rfl (Nat.le_of_ble_eq_true rfl)
theorem cK_X4_test_X4_emit {G : Nat → Option Nat} {d pc : Nat} {ls : zLs} {rest : List zV} {h : zH} {r0 : Option Nat} {x1 : Int32} {x2 : Int32} : zK2 (runF G) d mX4_test pc (zcallTo d mX4_test 103 [zr r0, zi x1, zi x2] h ls rest) = if zsum rest ≤ 8 then (callF G d mX4_emit [zr r0, zi x1, zi x2] h).bind (zback (runF G) d mX4_test pc ls rest) else none := zK_call2 (d' := d) rfl rfl (Nat.le_of_ble_eq_true rfl)
theorem cK_X4_test_X4_hasSign {G : Nat → Option Nat} {d pc : Nat} {ls : zLs} {rest : List zV} {h : zH} {r0 : Option Nat} {x1 : Int32} : zK2 (runF G) d mX4_test pc (zcallTo d mX4_test 105 [zr r0, zi x1] h ls rest) = if zsum rest ≤ 8 then (callF G d mX4_hasSign [zr r0, zi x1] h).bind (zback (runF G) d mX4_test pc ls rest) else none := zK_call2 (d' := d) rfl rfl (Nat.le_of_ble_eq_true rfl)
theorem cK_X4_sums_X4_isSign {G : Nat → Option Nat} {d pc : Nat} {ls : zLs} {rest : List zV} {h : zH} {r0 : Option Nat} {x1 : Int32} : zK2 (runF G) d mX4_sums pc (zcallTo d mX4_sums 95 [zr r0, zi x1] h ls rest) = if zsum rest ≤ 8 then (callF G d mX4_isSign [zr r0, zi x1] h).bind (zback (runF G) d mX4_sums pc ls rest) else none := zK_call2 (d' := d) rfl rfl (Nat.le_of_ble_eq_true rfl)
theorem cK_X4_sums_X4_products {G : Nat → Option Nat} {d pc : Nat} {ls : zLs} {rest : List zV} {h : zH} {r0 : Option Nat} {x1 : Int32} : zK2 (runF G) d mX4_sums pc (zcallTo d mX4_sums 100 [zr r0, zi x1] h ls rest) = if zsum rest ≤ 8 then (callF G d mX4_products [zr r0, zi x1] h).bind (zback (runF G) d mX4_sums pc ls rest) else none := zK_call2 (d' := d) rfl rfl (Nat.le_of_ble_eq_true rfl)
theorem cK_X4_sums_X4_emit {G : Nat → Option Nat} {d pc : Nat} {ls : zLs} {rest : List zV} {h : zH} {r0 : Option Nat} {x1 : Int32} {x2 : Int32} : zK2 (runF G) d mX4_sums pc (zcallTo d mX4_sums 103 [zr r0, zi x1, zi x2] h ls rest) = if zsum rest ≤ 8 then (callF G d mX4_emit [zr r0, zi x1, zi x2] h).bind (zback (runF G) d mX4_sums pc ls rest) else none := zK_call2 (d' := d) rfl rfl (Nat.le_of_ble_eq_true rfl)
theorem cK_X4_products_X4_takePart {G : Nat → Option Nat} {d pc : Nat} {ls : zLs} {rest : List zV} {h : zH} {r0 : Option Nat} {x1 : Int32} : zK2 (runF G) d mX4_products pc (zcallTo d mX4_products 101 [zr r0, zi x1] h ls rest) = if zsum rest ≤ 8 then (callF G d mX4_takePart [zr r0, zi x1] h).bind (zback (runF G) d mX4_products pc ls rest) else none := zK_call2 (d' := d) rfl rfl (Nat.le_of_ble_eq_true rfl)
theorem cK_X4_products_X4_emit {G : Nat → Option Nat} {d pc : Nat} {ls : zLs} {rest : List zV} {h : zH} {r0 : Option Nat} {x1 : Int32} {x2 : Int32} : zK2 (runF G) d mX4_products pc (zcallTo d mX4_products 103 [zr r0, zi x1, zi x2] h ls rest) = if zsum rest ≤ 8 then (callF G d mX4_emit [zr r0, zi x1, zi x2] h).bind (zback (runF G) d mX4_products pc ls rest) else none := zK_call2 (d' := d) rfl rfl (Nat.le_of_ble_eq_true rfl)
theorem cK_X4_products_X4_hasSign {G : Nat → Option Nat} {d pc : Nat} {ls : zLs} {rest : List zV} {h : zH} {r0 : Option Nat} {x1 : Int32} : zK2 (runF G) d mX4_products pc (zcallTo d mX4_products 105 [zr r0, zi x1] h ls rest) = if zsum rest ≤ 8 then (callF G d mX4_hasSign [zr r0, zi x1] h).bind (zback (runF G) d mX4_products pc ls rest) else none := zK_call2 (d' := d) rfl rfl (Nat.le_of_ble_eq_true rfl)
theorem cK_X4_takePart_X4_isWord {G : Nat → Option Nat} {d pc : Nat} {ls : zLs} {rest : List zV} {h : zH} {r0 : Option Nat} {x1 : Int32} : zK2 (runF G) d mX4_takePart pc (zcallTo d mX4_takePart 89 [zr r0, zi x1] h ls rest) = if zsum rest ≤ 8 then (callF G d mX4_isWord [zr r0, zi x1] h).bind (zback (runF G) d mX4_takePart pc ls rest) else none := zK_call2 (d' := d) rfl rfl (Nat.le_of_ble_eq_true rfl)
theorem cK_X4_takePart_X4_wrong {G : Nat → Option Nat} {d pc : Nat} {ls : zLs} {rest : List zV} {h : zH} {r0 : Option Nat} {x1 : Int32} : zK2 (runF G) d mX4_takePart pc (zcallTo d mX4_takePart 90 [zr r0, zi x1] h ls rest) = if zsum rest ≤ 8 then (callF G d mX4_wrong [zr r0, zi x1] h).bind (zback (runF G) d mX4_takePart pc ls rest) else none := zK_call2 (d' := d) rfl rfl (Nat.le_of_ble_eq_true rfl)
theorem cK_X4_takePart_X4_isName {G : Nat → Option Nat} {d pc : Nat} {ls : zLs} {rest : List zV} {h : zH} {r0 : Option Nat} : zK2 (runF G) d mX4_takePart pc (zcallTo d mX4_takePart 92 [zr r0] h ls rest) = if zsum rest ≤ 8 then (callF G d mX4_isName [zr r0] h).bind (zback (runF G) d mX4_takePart pc ls rest) else none := zK_call2 (d' := d) rfl rfl (Nat.le_of_ble_eq_true rfl)
theorem cK_X4_takePart_X4_findName {G : Nat → Option Nat} {d pc : Nat} {ls : zLs} {rest : List zV} {h : zH} {r0 : Option Nat} : zK2 (runF G) d mX4_takePart pc (zcallTo d mX4_takePart 93 [zr r0] h ls rest) = if zsum rest ≤ 8 then (callF G d mX4_findName [zr r0] h).bind (zback (runF G) d mX4_takePart pc ls rest) else none := zK_call2 (d' := d) rfl rfl (Nat.le_of_ble_eq_true rfl)
theorem cK_X4_takePart_X4_takeSign {G : Nat → Option Nat} {d pc : Nat} {ls : zLs} {rest : List zV} {h : zH} {r0 : Option Nat} {x1 : Int32} : zK2 (runF G) d mX4_takePart pc (zcallTo d mX4_takePart 94 [zr r0, zi x1] h ls rest) = if zsum rest ≤ 8 then (callF G d mX4_takeSign [zr r0, zi x1] h).bind (zback (runF G) d mX4_takePart pc ls rest) else none := zK_call2 (d' := d) rfl rfl (Nat.le_of_ble_eq_true rfl)
theorem cK_X4_takePart_X4_isSign {G : Nat → Option Nat} {d pc : Nat} {ls : zLs} {rest : List zV} {h : zH} {r0 : Option Nat} {x1 : Int32} : zK2 (runF G) d mX4_takePart pc (zcallTo d mX4_takePart 95 [zr r0, zi x1] h ls rest) = if zsum rest ≤ 8 then (callF G d mX4_isSign [zr r0, zi x1] h).bind (zback (runF G) d mX4_takePart pc ls rest) else none := zK_call2 (d' := d) rfl rfl (Nat.le_of_ble_eq_true rfl)
theorem cK_X4_takePart_X4_all {G : Nat → Option Nat} {d pc : Nat} {ls : zLs} {rest : List zV} {h : zH} {r0 : Option Nat} {x1 : Int32} : zK2 (runF G) (d + 1) mX4_takePart pc (zcallTo (d + 1) mX4_takePart 97 [zr r0, zi x1] h ls rest) = if zsum rest ≤ 8 then (callF G d mX4_all [zr r0, zi x1] h).bind (zback (runF G) (d + 1) mX4_takePart pc ls rest) else none := zK_call2 (d' := d) rfl rfl (Nat.le_of_ble_eq_true rfl)
theorem cK_X4_takePart_X4_takePart {G : Nat → Option Nat} {d pc : Nat} {ls : zLs} {rest : List zV} {h : zH} {r0 : Option Nat} {x1 : Int32} : zK2 (runF G) (d + 1) mX4_takePart pc (zcallTo (d + 1) mX4_takePart 101 [zr r0, zi x1] h ls rest) = if zsum rest ≤ 8 then (callF G d mX4_takePart [zr r0, zi x1] h).bind (zback (runF G) (d + 1) mX4_takePart pc ls rest) else none := zK_call2 (d' := d) rfl rfl (Nat.le_of_ble_eq_true rfl)
theorem cK_X4_takePart_X4_hasWord {G : Nat → Option Nat} {d pc : Nat} {ls : zLs} {rest : List zV} {h : zH} {r0 : Option Nat} {x1 : Int32} : zK2 (runF G) d mX4_takePart pc (zcallTo d mX4_takePart 102 [zr r0, zi x1] h ls rest) = if zsum rest ≤ 8 then (callF G d mX4_hasWord [zr r0, zi x1] h).bind (zback (runF G) d mX4_takePart pc ls rest) else none := zK_call2 (d' := d) rfl rfl (Nat.le_of_ble_eq_true rfl)
theorem cK_X4_takePart_X4_emit {G : Nat → Option Nat} {d pc : Nat} {ls : zLs} {rest : List zV} {h : zH} {r0 : Option Nat} {x1 : Int32} {x2 : Int32} : zK2 (runF G) d mX4_takePart pc (zcallTo d mX4_takePart 103 [zr r0, zi x1, zi x2] h ls rest) = if zsum rest ≤ 8 then (callF G d mX4_emit [zr r0, zi x1, zi x2] h).bind (zback (runF G) d mX4_takePart pc ls rest) else none := zK_call2 (d' := d) rfl rfl (Nat.le_of_ble_eq_true rfl)
theorem cK_X4_takePart_X4_takeNumber {G : Nat → Option Nat} {d pc : Nat} {ls : zLs} {rest : List zV} {h : zH} {r0 : Option Nat} {x1 : Int32} : zK2 (runF G) d mX4_takePart pc (zcallTo d mX4_takePart 104 [zr r0, zi x1] h ls rest) = if zsum rest ≤ 8 then (callF G d mX4_takeNumber [zr r0, zi x1] h).bind (zback (runF G) d mX4_takePart pc ls rest) else none := zK_call2 (d' := d) rfl rfl (Nat.le_of_ble_eq_true rfl)
theorem cK_X4_takePart_X4_hasSign {G : Nat → Option Nat} {d pc : Nat} {ls : zLs} {rest : List zV} {h : zH} {r0 : Option Nat} {x1 : Int32} : zK2 (runF G) d mX4_takePart pc (zcallTo d mX4_takePart 105 [zr r0, zi x1] h ls rest) = if zsum rest ≤ 8 then (callF G d mX4_hasSign [zr r0, zi x1] h).bind (zback (runF G) d mX4_takePart pc ls rest) else none := zK_call2 (d' := d) rfl rfl (Nat.le_of_ble_eq_true rfl)
theorem cK_X4_hasWord_X4_isWord {G : Nat → Option Nat} {d pc : Nat} {ls : zLs} {rest : List zV} {h : zH} {r0 : Option Nat} {x1 : Int32} : zK2 (runF G) d mX4_hasWord pc (zcallTo d mX4_hasWord 89 [zr r0, zi x1] h ls rest) = if zsum rest ≤ 8 then (callF G d mX4_isWord [zr r0, zi x1] h).bind (zback (runF G) d mX4_hasWord pc ls rest) else none := zK_call2 (d' := d) rfl rfl (Nat.le_of_ble_eq_true rfl)
theorem cK_X4_takeNumber_X4_wrong {G : Nat → Option Nat} {d pc : Nat} {ls : zLs} {rest : List zV} {h : zH} {r0 : Option Nat} {x1 : Int32} : zK2 (runF G) d mX4_takeNumber pc (zcallTo d mX4_takeNumber 90 [zr r0, zi x1] h ls rest) = if zsum rest ≤ 8 then (callF G d mX4_wrong [zr r0, zi x1] h).bind (zback (runF G) d mX4_takeNumber pc ls rest) else none := zK_call2 (d' := d) rfl rfl (Nat.le_of_ble_eq_true rfl)
theorem cK_X4_hasSign_X4_isSign {G : Nat → Option Nat} {d pc : Nat} {ls : zLs} {rest : List zV} {h : zH} {r0 : Option Nat} {x1 : Int32} : zK2 (runF G) d mX4_hasSign pc (zcallTo d mX4_hasSign 95 [zr r0, zi x1] h ls rest) = if zsum rest ≤ 8 then (callF G d mX4_isSign [zr r0, zi x1] h).bind (zback (runF G) d mX4_hasSign pc ls rest) else none := zK_call2 (d' := d) rfl rfl (Nat.le_of_ble_eq_true rfl)
theorem cK_X4_takeWord_X4_wrong {G : Nat → Option Nat} {d pc : Nat} {ls : zLs} {rest : List zV} {h : zH} {r0 : Option Nat} {x1 : Int32} : zK2 (runF G) d mX4_takeWord pc (zcallTo d mX4_takeWord 90 [zr r0, zi x1] h ls rest) = if zsum rest ≤ 8 then (callF G d mX4_wrong [zr r0, zi x1] h).bind (zback (runF G) d mX4_takeWord pc ls rest) else none := zK_call2 (d' := d) rfl rfl (Nat.le_of_ble_eq_true rfl)
theorem cK_X4_takeWord_X4_hasWord {G : Nat → Option Nat} {d pc : Nat} {ls : zLs} {rest : List zV} {h : zH} {r0 : Option Nat} {x1 : Int32} : zK2 (runF G) d mX4_takeWord pc (zcallTo d mX4_takeWord 102 [zr r0, zi x1] h ls rest) = if zsum rest ≤ 8 then (callF G d mX4_hasWord [zr r0, zi x1] h).bind (zback (runF G) d mX4_takeWord pc ls rest) else none := zK_call2 (d' := d) rfl rfl (Nat.le_of_ble_eq_true rfl)
theorem cK_X4_days_X4_within {G : Nat → Option Nat} {d pc : Nat} {ls : zLs} {rest : List zV} {h : zH} {x0 : Int32} {x1 : Int32} {x2 : Int32} : zK2 (runF G) d mX4_days pc (zcallTo d mX4_days 109 [zi x0, zi x1, zi x2] h ls rest) = if zsum rest ≤ 8 then (callF G d mX4_within [zi x0, zi x1, zi x2] h).bind (zback (runF G) d mX4_days pc ls rest) else none := zK_call2 (d' := d) rfl rfl (Nat.le_of_ble_eq_true rfl)
theorem cK_X4_view_X4_within {G : Nat → Option Nat} {d pc : Nat} {ls : zLs} {rest : List zV} {h : zH} {x0 : Int32} {x1 : Int32} {x2 : Int32} : zK2 (runF G) d mX4_view pc (zcallTo d mX4_view 109 [zi x0, zi x1, zi x2] h ls rest) = if zsum rest ≤ 8 then (callF G d mX4_within [zi x0, zi x1, zi x2] h).bind (zback (runF G) d mX4_view pc ls rest) else none := zK_call2 (d' := d) rfl rfl (Nat.le_of_ble_eq_true rfl)
theorem cK_X4_shop_X4_within {G : Nat → Option Nat} {d pc : Nat} {ls : zLs} {rest : List zV} {h : zH} {x0 : Int32} {x1 : Int32} {x2 : Int32} : zK2 (runF G) d mX4_shop pc (zcallTo d mX4_shop 109 [zi x0, zi x1, zi x2] h ls rest) = if zsum rest ≤ 8 then (callF G d mX4_within [zi x0, zi x1, zi x2] h).bind (zback (runF G) d mX4_shop pc ls rest) else none := zK_call2 (d' := d) rfl rfl (Nat.le_of_ble_eq_true rfl)
theorem cK_X4_shop_X4_isPlace {G : Nat → Option Nat} {d pc : Nat} {ls : zLs} {rest : List zV} {h : zH} {x0 : Int32} {x1 : Int32} : zK2 (runF G) d mX4_shop pc (zcallTo d mX4_shop 112 [zi x0, zi x1] h ls rest) = if zsum rest ≤ 8 then (callF G d mX4_isPlace [zi x0, zi x1] h).bind (zback (runF G) d mX4_shop pc ls rest) else none := zK_call2 (d' := d) rfl rfl (Nat.le_of_ble_eq_true rfl)
theorem cK_X4_isPlace_X4_within {G : Nat → Option Nat} {d pc : Nat} {ls : zLs} {rest : List zV} {h : zH} {x0 : Int32} {x1 : Int32} {x2 : Int32} : zK2 (runF G) d mX4_isPlace pc (zcallTo d mX4_isPlace 109 [zi x0, zi x1, zi x2] h ls rest) = if zsum rest ≤ 8 then (callF G d mX4_within [zi x0, zi x1, zi x2] h).bind (zback (runF G) d mX4_isPlace pc ls rest) else none := zK_call2 (d' := d) rfl rfl (Nat.le_of_ble_eq_true rfl)
theorem cK_X4_buyer_X4_isPlace {G : Nat → Option Nat} {d pc : Nat} {ls : zLs} {rest : List zV} {h : zH} {x0 : Int32} {x1 : Int32} : zK2 (runF G) d mX4_buyer pc (zcallTo d mX4_buyer 112 [zi x0, zi x1] h ls rest) = if zsum rest ≤ 8 then (callF G d mX4_isPlace [zi x0, zi x1] h).bind (zback (runF G) d mX4_buyer pc ls rest) else none := zK_call2 (d' := d) rfl rfl (Nat.le_of_ble_eq_true rfl)
theorem cK_X4_terms_X4_within {G : Nat → Option Nat} {d pc : Nat} {ls : zLs} {rest : List zV} {h : zH} {x0 : Int32} {x1 : Int32} {x2 : Int32} : zK2 (runF G) d mX4_terms pc (zcallTo d mX4_terms 109 [zi x0, zi x1, zi x2] h ls rest) = if zsum rest ≤ 8 then (callF G d mX4_within [zi x0, zi x1, zi x2] h).bind (zback (runF G) d mX4_terms pc ls rest) else none := zK_call2 (d' := d) rfl rfl (Nat.le_of_ble_eq_true rfl)
theorem cK_X4_rest_X4_within {G : Nat → Option Nat} {d pc : Nat} {ls : zLs} {rest : List zV} {h : zH} {x0 : Int32} {x1 : Int32} {x2 : Int32} : zK2 (runF G) d mX4_rest pc (zcallTo d mX4_rest 109 [zi x0, zi x1, zi x2] h ls rest) = if zsum rest ≤ 8 then (callF G d mX4_within [zi x0, zi x1, zi x2] h).bind (zback (runF G) d mX4_rest pc ls rest) else none := zK_call2 (d' := d) rfl rfl (Nat.le_of_ble_eq_true rfl)
theorem cK_X4_visit_X4_within {G : Nat → Option Nat} {d pc : Nat} {ls : zLs} {rest : List zV} {h : zH} {x0 : Int32} {x1 : Int32} {x2 : Int32} : zK2 (runF G) d mX4_visit pc (zcallTo d mX4_visit 109 [zi x0, zi x1, zi x2] h ls rest) = if zsum rest ≤ 8 then (callF G d mX4_within [zi x0, zi x1, zi x2] h).bind (zback (runF G) d mX4_visit pc ls rest) else none := zK_call2 (d' := d) rfl rfl (Nat.le_of_ble_eq_true rfl)
theorem cK_X4_visit_X4_isShop {G : Nat → Option Nat} {d pc : Nat} {ls : zLs} {rest : List zV} {h : zH} {r0 : Option Nat} {x1 : Int32} : zK2 (runF G) d mX4_visit pc (zcallTo d mX4_visit 117 [zr r0, zi x1] h ls rest) = if zsum rest ≤ 8 then (callF G d mX4_isShop [zr r0, zi x1] h).bind (zback (runF G) d mX4_visit pc ls rest) else none := zK_call2 (d' := d) rfl rfl (Nat.le_of_ble_eq_true rfl)
theorem cK_X4_visit_X4_isBuyer {G : Nat → Option Nat} {d pc : Nat} {ls : zLs} {rest : List zV} {h : zH} {r0 : Option Nat} {x1 : Int32} : zK2 (runF G) d mX4_visit pc (zcallTo d mX4_visit 118 [zr r0, zi x1] h ls rest) = if zsum rest ≤ 8 then (callF G d mX4_isBuyer [zr r0, zi x1] h).bind (zback (runF G) d mX4_visit pc ls rest) else none := zK_call2 (d' := d) rfl rfl (Nat.le_of_ble_eq_true rfl)
theorem cK_X4_visit_X4_visitsOf {G : Nat → Option Nat} {d pc : Nat} {ls : zLs} {rest : List zV} {h : zH} {r0 : Option Nat} {x1 : Int32} {x2 : Int32} : zK2 (runF G) d mX4_visit pc (zcallTo d mX4_visit 119 [zr r0, zi x1, zi x2] h ls rest) = if zsum rest ≤ 8 then (callF G d mX4_visitsOf [zr r0, zi x1, zi x2] h).bind (zback (runF G) d mX4_visit pc ls rest) else none := zK_call2 (d' := d) rfl rfl (Nat.le_of_ble_eq_true rfl)
theorem cK_X4_appeal_X4_within {G : Nat → Option Nat} {d pc : Nat} {ls : zLs} {rest : List zV} {h : zH} {x0 : Int32} {x1 : Int32} {x2 : Int32} : zK2 (runF G) d mX4_appeal pc (zcallTo d mX4_appeal 109 [zi x0, zi x1, zi x2] h ls rest) = if zsum rest ≤ 8 then (callF G d mX4_within [zi x0, zi x1, zi x2] h).bind (zback (runF G) d mX4_appeal pc ls rest) else none := zK_call2 (d' := d) rfl rfl (Nat.le_of_ble_eq_true rfl)
theorem cK_X4_look_X4_within {G : Nat → Option Nat} {d pc : Nat} {ls : zLs} {rest : List zV} {h : zH} {x0 : Int32} {x1 : Int32} {x2 : Int32} : zK2 (runF G) d mX4_look pc (zcallTo d mX4_look 109 [zi x0, zi x1, zi x2] h ls rest) = if zsum rest ≤ 8 then (callF G d mX4_within [zi x0, zi x1, zi x2] h).bind (zback (runF G) d mX4_look pc ls rest) else none := zK_call2 (d' := d) rfl rfl (Nat.le_of_ble_eq_true rfl)
theorem cK_X4_look_X4_isSeen {G : Nat → Option Nat} {d pc : Nat} {ls : zLs} {rest : List zV} {h : zH} {r0 : Option Nat} {x1 : Int32} : zK2 (runF G) d mX4_look pc (zcallTo d mX4_look 122 [zr r0, zi x1] h ls rest) = if zsum rest ≤ 8 then (callF G d mX4_isSeen [zr r0, zi x1] h).bind (zback (runF G) d mX4_look pc ls rest) else none := zK_call2 (d' := d) rfl rfl (Nat.le_of_ble_eq_true rfl)
theorem cK_X4_look_X4_findAll {G : Nat → Option Nat} {d pc : Nat} {ls : zLs} {rest : List zV} {h : zH} {r0 : Option Nat} : zK2 (runF G) d mX4_look pc (zcallTo d mX4_look 124 [zr r0] h ls rest) = if zsum rest ≤ 8 then (callF G d mX4_findAll [zr r0] h).bind (zback (runF G) d mX4_look pc ls rest) else none := zK_call2 (d' := d) rfl rfl (Nat.le_of_ble_eq_true rfl)
theorem cK_X4_isSeen_X4_viewDay {G : Nat → Option Nat} {d pc : Nat} {ls : zLs} {rest : List zV} {h : zH} {r0 : Option Nat} : zK2 (runF G) d mX4_isSeen pc (zcallTo d mX4_isSeen 123 [zr r0] h ls rest) = if zsum rest ≤ 8 then (callF G d mX4_viewDay [zr r0] h).bind (zback (runF G) d mX4_isSeen pc ls rest) else none := zK_call2 (d' := d) rfl rfl (Nat.le_of_ble_eq_true rfl)
theorem cK_X4_findAll_X4_isSeen {G : Nat → Option Nat} {d pc : Nat} {ls : zLs} {rest : List zV} {h : zH} {r0 : Option Nat} {x1 : Int32} : zK2 (runF G) d mX4_findAll pc (zcallTo d mX4_findAll 122 [zr r0, zi x1] h ls rest) = if zsum rest ≤ 8 then (callF G d mX4_isSeen [zr r0, zi x1] h).bind (zback (runF G) d mX4_findAll pc ls rest) else none := zK_call2 (d' := d) rfl rfl (Nat.le_of_ble_eq_true rfl)
theorem cK_X4_findAll_X4_isAhead {G : Nat → Option Nat} {d pc : Nat} {ls : zLs} {rest : List zV} {h : zH} {r0 : Option Nat} {x1 : Int32} {x2 : Int32} : zK2 (runF G) d mX4_findAll pc (zcallTo d mX4_findAll 125 [zr r0, zi x1, zi x2] h ls rest) = if zsum rest ≤ 8 then (callF G d mX4_isAhead [zr r0, zi x1, zi x2] h).bind (zback (runF G) d mX4_findAll pc ls rest) else none := zK_call2 (d' := d) rfl rfl (Nat.le_of_ble_eq_true rfl)
theorem cK_X4_findAll_X4_latest {G : Nat → Option Nat} {d pc : Nat} {ls : zLs} {rest : List zV} {h : zH} {r0 : Option Nat} {x1 : Int32} {x2 : Int32} : zK2 (runF G) d mX4_findAll pc (zcallTo d mX4_findAll 126 [zr r0, zi x1, zi x2] h ls rest) = if zsum rest ≤ 8 then (callF G d mX4_latest [zr r0, zi x1, zi x2] h).bind (zback (runF G) d mX4_findAll pc ls rest) else none := zK_call2 (d' := d) rfl rfl (Nat.le_of_ble_eq_true rfl)
theorem cK_X4_findAll_X4_formNow {G : Nat → Option Nat} {d pc : Nat} {ls : zLs} {rest : List zV} {h : zH} {r0 : Option Nat} {x1 : Int32} : zK2 (runF G) d mX4_findAll pc (zcallTo d mX4_findAll 127 [zr r0, zi x1] h ls rest) = if zsum rest ≤ 8 then (callF G d mX4_formNow [zr r0, zi x1] h).bind (zback (runF G) d mX4_findAll pc ls rest) else none := zK_call2 (d' := d) rfl rfl (Nat.le_of_ble_eq_true rfl)
theorem cK_X4_findAll_X4_tells {G : Nat → Option Nat} {d pc : Nat} {ls : zLs} {rest : List zV} {h : zH} {r0 : Option Nat} {x1 : Int32} {x2 : Int32} {x3 : Int32} : zK2 (runF G) d mX4_findAll pc (zcallTo d mX4_findAll 128 [zr r0, zi x1, zi x2, zi x3] h ls rest) = if zsum rest ≤ 8 then (callF G d mX4_tells [zr r0, zi x1, zi x2, zi x3] h).bind (zback (runF G) d mX4_findAll pc ls rest) else none := zK_call2 (d' := d) rfl rfl (Nat.le_of_ble_eq_true rfl)
theorem cK_X4_findAll_X4_briefOf {G : Nat → Option Nat} {d pc : Nat} {ls : zLs} {rest : List zV} {h : zH} {r0 : Option Nat} {x1 : Int32} : zK2 (runF G) d mX4_findAll pc (zcallTo d mX4_findAll 130 [zr r0, zi x1] h ls rest) = if zsum rest ≤ 8 then (callF G d mX4_briefOf [zr r0, zi x1] h).bind (zback (runF G) d mX4_findAll pc ls rest) else none := zK_call2 (d' := d) rfl rfl (Nat.le_of_ble_eq_true rfl)
theorem cK_X4_findAll_X4_judges {G : Nat → Option Nat} {d pc : Nat} {ls : zLs} {rest : List zV} {h : zH} {r0 : Option Nat} {x1 : Int32} : zK2 (runF G) d mX4_findAll pc (zcallTo d mX4_findAll 131 [zr r0, zi x1] h ls rest) = if zsum rest ≤ 8 then (callF G d mX4_judges [zr r0, zi x1] h).bind (zback (runF G) d mX4_findAll pc ls rest) else none := zK_call2 (d' := d) rfl rfl (Nat.le_of_ble_eq_true rfl)
theorem cK_X4_findAll_X4_isAlone {G : Nat → Option Nat} {d pc : Nat} {ls : zLs} {rest : List zV} {h : zH} {r0 : Option Nat} {x1 : Int32} : zK2 (runF G) d mX4_findAll pc (zcallTo d mX4_findAll 134 [zr r0, zi x1] h ls rest) = if zsum rest ≤ 8 then (callF G d mX4_isAlone [zr r0, zi x1] h).bind (zback (runF G) d mX4_findAll pc ls rest) else none := zK_call2 (d' := d) rfl rfl (Nat.le_of_ble_eq_true rfl)
theorem cK_X4_findAll_X4_findFewest {G : Nat → Option Nat} {d pc : Nat} {ls : zLs} {rest : List zV} {h : zH} {r0 : Option Nat} {x1 : Int32} {x2 : Int32} : zK2 (runF G) d mX4_findAll pc (zcallTo d mX4_findAll 135 [zr r0, zi x1, zi x2] h ls rest) = if zsum rest ≤ 8 then (callF G d mX4_findFewest [zr r0, zi x1, zi x2] h).bind (zback (runF G) d mX4_findAll pc ls rest) else none := zK_call2 (d' := d) rfl rfl (Nat.le_of_ble_eq_true rfl)
theorem cK_X4_latest_X4_isSeen {G : Nat → Option Nat} {d pc : Nat} {ls : zLs} {rest : List zV} {h : zH} {r0 : Option Nat} {x1 : Int32} : zK2 (runF G) d mX4_latest pc (zcallTo d mX4_latest 122 [zr r0, zi x1] h ls rest) = if zsum rest ≤ 8 then (callF G d mX4_isSeen [zr r0, zi x1] h).bind (zback (runF G) d mX4_latest pc ls rest) else none := zK_call2 (d' := d) rfl rfl (Nat.le_of_ble_eq_true rfl)
theorem cK_X4_latest_X4_isAhead {G : Nat → Option Nat} {d pc : Nat} {ls : zLs} {rest : List zV} {h : zH} {r0 : Option Nat} {x1 : Int32} {x2 : Int32} : zK2 (runF G) d mX4_latest pc (zcallTo d mX4_latest 125 [zr r0, zi x1, zi x2] h ls rest) = if zsum rest ≤ 8 then (callF G d mX4_isAhead [zr r0, zi x1, zi x2] h).bind (zback (runF G) d mX4_latest pc ls rest) else none := zK_call2 (d' := d) rfl rfl (Nat.le_of_ble_eq_true rfl)
theorem cK_X4_formNow_X4_viewDay {G : Nat → Option Nat} {d pc : Nat} {ls : zLs} {rest : List zV} {h : zH} {r0 : Option Nat} : zK2 (runF G) d mX4_formNow pc (zcallTo d mX4_formNow 123 [zr r0] h ls rest) = if zsum rest ≤ 8 then (callF G d mX4_viewDay [zr r0] h).bind (zback (runF G) d mX4_formNow pc ls rest) else none := zK_call2 (d' := d) rfl rfl (Nat.le_of_ble_eq_true rfl)
theorem cK_X4_tells_X4_bits {G : Nat → Option Nat} {d pc : Nat} {ls : zLs} {rest : List zV} {h : zH} {x0 : Int32} : zK2 (runF G) d mX4_tells pc (zcallTo d mX4_tells 129 [zi x0] h ls rest) = if zsum rest ≤ 8 then (callF G d mX4_bits [zi x0] h).bind (zback (runF G) d mX4_tells pc ls rest) else none := zK_call2 (d' := d) rfl rfl (Nat.le_of_ble_eq_true rfl)
theorem cK_X4_briefOf_X4_viewDay {G : Nat → Option Nat} {d pc : Nat} {ls : zLs} {rest : List zV} {h : zH} {r0 : Option Nat} : zK2 (runF G) d mX4_briefOf pc (zcallTo d mX4_briefOf 123 [zr r0] h ls rest) = if zsum rest ≤ 8 then (callF G d mX4_viewDay [zr r0] h).bind (zback (runF G) d mX4_briefOf pc ls rest) else none := zK_call2 (d' := d) rfl rfl (Nat.le_of_ble_eq_true rfl)
theorem cK_X4_judges_X4_worth {G : Nat → Option Nat} {d pc : Nat} {ls : zLs} {rest : List zV} {h : zH} {r0 : Option Nat} {x1 : Int32} : zK2 (runF G) d mX4_judges pc (zcallTo d mX4_judges 132 [zr r0, zi x1] h ls rest) = if zsum rest ≤ 8 then (callF G d mX4_worth [zr r0, zi x1] h).bind (zback (runF G) d mX4_judges pc ls rest) else none := zK_call2 (d' := d) rfl rfl (Nat.le_of_ble_eq_true rfl)
theorem cK_X4_worth_X4_both {G : Nat → Option Nat} {d pc : Nat} {ls : zLs} {rest : List zV} {h : zH} {x0 : Int32} {x1 : Int32} {x2 : Int32} : zK2 (runF G) d mX4_worth pc (zcallTo d mX4_worth 133 [zi x0, zi x1, zi x2] h ls rest) = if zsum rest ≤ 8 then (callF G d mX4_both [zi x0, zi x1, zi x2] h).bind (zback (runF G) d mX4_worth pc ls rest) else none := zK_call2 (d' := d) rfl rfl (Nat.le_of_ble_eq_true rfl)
theorem cK_X4_isAlone_X4_within {G : Nat → Option Nat} {d pc : Nat} {ls : zLs} {rest : List zV} {h : zH} {x0 : Int32} {x1 : Int32} {x2 : Int32} : zK2 (runF G) d mX4_isAlone pc (zcallTo d mX4_isAlone 109 [zi x0, zi x1, zi x2] h ls rest) = if zsum rest ≤ 8 then (callF G d mX4_within [zi x0, zi x1, zi x2] h).bind (zback (runF G) d mX4_isAlone pc ls rest) else none := zK_call2 (d' := d) rfl rfl (Nat.le_of_ble_eq_true rfl)
theorem cK_X4_isAlone_X4_formNow {G : Nat → Option Nat} {d pc : Nat} {ls : zLs} {rest : List zV} {h : zH} {r0 : Option Nat} {x1 : Int32} : zK2 (runF G) d mX4_isAlone pc (zcallTo d mX4_isAlone 127 [zr r0, zi x1] h ls rest) = if zsum rest ≤ 8 then (callF G d mX4_formNow [zr r0, zi x1] h).bind (zback (runF G) d mX4_isAlone pc ls rest) else none := zK_call2 (d' := d) rfl rfl (Nat.le_of_ble_eq_true rfl)
theorem cK_X4_findFewest_X4_isSeen {G : Nat → Option Nat} {d pc : Nat} {ls : zLs} {rest : List zV} {h : zH} {r0 : Option Nat} {x1 : Int32} : zK2 (runF G) d mX4_findFewest pc (zcallTo d mX4_findFewest 122 [zr r0, zi x1] h ls rest) = if zsum rest ≤ 8 then (callF G d mX4_isSeen [zr r0, zi x1] h).bind (zback (runF G) d mX4_findFewest pc ls rest) else none := zK_call2 (d' := d) rfl rfl (Nat.le_of_ble_eq_true rfl)
theorem cK_X4_findFewest_X4_bits {G : Nat → Option Nat} {d pc : Nat} {ls : zLs} {rest : List zV} {h : zH} {x0 : Int32} : zK2 (runF G) d mX4_findFewest pc (zcallTo d mX4_findFewest 129 [zi x0] h ls rest) = if zsum rest ≤ 8 then (callF G d mX4_bits [zi x0] h).bind (zback (runF G) d mX4_findFewest pc ls rest) else none := zK_call2 (d' := d) rfl rfl (Nat.le_of_ble_eq_true rfl)
theorem cK_X4_findFewest_X4_areBoth {G : Nat → Option Nat} {d pc : Nat} {ls : zLs} {rest : List zV} {h : zH} {r0 : Option Nat} {x1 : Int32} {x2 : Int32} : zK2 (runF G) d mX4_findFewest pc (zcallTo d mX4_findFewest 136 [zr r0, zi x1, zi x2] h ls rest) = if zsum rest ≤ 8 then (callF G d mX4_areBoth [zr r0, zi x1, zi x2] h).bind (zback (runF G) d mX4_findFewest pc ls rest) else none := zK_call2 (d' := d) rfl rfl (Nat.le_of_ble_eq_true rfl)
theorem cK_X4_findFewest_X4_doesDo {G : Nat → Option Nat} {d pc : Nat} {ls : zLs} {rest : List zV} {h : zH} {r0 : Option Nat} {x1 : Int32} : zK2 (runF G) d mX4_findFewest pc (zcallTo d mX4_findFewest 138 [zr r0, zi x1] h ls rest) = if zsum rest ≤ 8 then (callF G d mX4_doesDo [zr r0, zi x1] h).bind (zback (runF G) d mX4_findFewest pc ls rest) else none := zK_call2 (d' := d) rfl rfl (Nat.le_of_ble_eq_true rfl)
theorem cK_X4_findFewest_X4_isFirst {G : Nat → Option Nat} {d pc : Nat} {ls : zLs} {rest : List zV} {h : zH} {x0 : Int32} {x1 : Int32} : zK2 (runF G) d mX4_findFewest pc (zcallTo d mX4_findFewest 139 [zi x0, zi x1] h ls rest) = if zsum rest ≤ 8 then (callF G d mX4_isFirst [zi x0, zi x1] h).bind (zback (runF G) d mX4_findFewest pc ls rest) else none := zK_call2 (d' := d) rfl rfl (Nat.le_of_ble_eq_true rfl)
theorem cK_X4_areBoth_X4_wayBetween {G : Nat → Option Nat} {d pc : Nat} {ls : zLs} {rest : List zV} {h : zH} {x0 : Int32} {x1 : Int32} {x2 : Int32} {x3 : Int32} : zK2 (runF G) d mX4_areBoth pc (zcallTo d mX4_areBoth 137 [zi x0, zi x1, zi x2, zi x3] h ls rest) = if zsum rest ≤ 8 then (callF G d mX4_wayBetween [zi x0, zi x1, zi x2, zi x3] h).bind (zback (runF G) d mX4_areBoth pc ls rest) else none := zK_call2 (d' := d) rfl rfl (Nat.le_of_ble_eq_true rfl)
theorem cK_X4_counts_X4_isSeen {G : Nat → Option Nat} {d pc : Nat} {ls : zLs} {rest : List zV} {h : zH} {r0 : Option Nat} {x1 : Int32} : zK2 (runF G) d mX4_counts pc (zcallTo d mX4_counts 122 [zr r0, zi x1] h ls rest) = if zsum rest ≤ 8 then (callF G d mX4_isSeen [zr r0, zi x1] h).bind (zback (runF G) d mX4_counts pc ls rest) else none := zK_call2 (d' := d) rfl rfl (Nat.le_of_ble_eq_true rfl)
theorem cK_X4_fewest_X4_isBuyer {G : Nat → Option Nat} {d pc : Nat} {ls : zLs} {rest : List zV} {h : zH} {r0 : Option Nat} {x1 : Int32} : zK2 (runF G) d mX4_fewest pc (zcallTo d mX4_fewest 118 [zr r0, zi x1] h ls rest) = if zsum rest ≤ 8 then (callF G d mX4_isBuyer [zr r0, zi x1] h).bind (zback (runF G) d mX4_fewest pc ls rest) else none := zK_call2 (d' := d) rfl rfl (Nat.le_of_ble_eq_true rfl)
theorem cK_X4_fewest_X4_findAll {G : Nat → Option Nat} {d pc : Nat} {ls : zLs} {rest : List zV} {h : zH} {r0 : Option Nat} : zK2 (runF G) d mX4_fewest pc (zcallTo d mX4_fewest 124 [zr r0] h ls rest) = if zsum rest ≤ 8 then (callF G d mX4_findAll [zr r0] h).bind (zback (runF G) d mX4_fewest pc ls rest) else none := zK_call2 (d' := d) rfl rfl (Nat.le_of_ble_eq_true rfl)
theorem cK_X4_fewest_X4_findFewest {G : Nat → Option Nat} {d pc : Nat} {ls : zLs} {rest : List zV} {h : zH} {r0 : Option Nat} {x1 : Int32} {x2 : Int32} : zK2 (runF G) d mX4_fewest pc (zcallTo d mX4_fewest 135 [zr r0, zi x1, zi x2] h ls rest) = if zsum rest ≤ 8 then (callF G d mX4_findFewest [zr r0, zi x1, zi x2] h).bind (zback (runF G) d mX4_fewest pc ls rest) else none := zK_call2 (d' := d) rfl rfl (Nat.le_of_ble_eq_true rfl)
theorem cK_X4_fewest_X4_isDay {G : Nat → Option Nat} {d pc : Nat} {ls : zLs} {rest : List zV} {h : zH} {x0 : Int32} : zK2 (runF G) d mX4_fewest pc (zcallTo d mX4_fewest 142 [zi x0] h ls rest) = if zsum rest ≤ 8 then (callF G d mX4_isDay [zi x0] h).bind (zback (runF G) d mX4_fewest pc ls rest) else none := zK_call2 (d' := d) rfl rfl (Nat.le_of_ble_eq_true rfl)
theorem cK_X4_isDay_X4_within {G : Nat → Option Nat} {d pc : Nat} {ls : zLs} {rest : List zV} {h : zH} {x0 : Int32} {x1 : Int32} {x2 : Int32} : zK2 (runF G) d mX4_isDay pc (zcallTo d mX4_isDay 109 [zi x0, zi x1, zi x2] h ls rest) = if zsum rest ≤ 8 then (callF G d mX4_within [zi x0, zi x1, zi x2] h).bind (zback (runF G) d mX4_isDay pc ls rest) else none := zK_call2 (d' := d) rfl rfl (Nat.le_of_ble_eq_true rfl)
theorem cK_X4_set_X4_isBuyer {G : Nat → Option Nat} {d pc : Nat} {ls : zLs} {rest : List zV} {h : zH} {r0 : Option Nat} {x1 : Int32} : zK2 (runF G) d mX4_set pc (zcallTo d mX4_set 118 [zr r0, zi x1] h ls rest) = if zsum rest ≤ 8 then (callF G d mX4_isBuyer [zr r0, zi x1] h).bind (zback (runF G) d mX4_set pc ls rest) else none := zK_call2 (d' := d) rfl rfl (Nat.le_of_ble_eq_true rfl)
theorem cK_X4_set_X4_findAll {G : Nat → Option Nat} {d pc : Nat} {ls : zLs} {rest : List zV} {h : zH} {r0 : Option Nat} : zK2 (runF G) d mX4_set pc (zcallTo d mX4_set 124 [zr r0] h ls rest) = if zsum rest ≤ 8 then (callF G d mX4_findAll [zr r0] h).bind (zback (runF G) d mX4_set pc ls rest) else none := zK_call2 (d' := d) rfl rfl (Nat.le_of_ble_eq_true rfl)
theorem cK_X4_set_X4_findFewest {G : Nat → Option Nat} {d pc : Nat} {ls : zLs} {rest : List zV} {h : zH} {r0 : Option Nat} {x1 : Int32} {x2 : Int32} : zK2 (runF G) d mX4_set pc (zcallTo d mX4_set 135 [zr r0, zi x1, zi x2] h ls rest) = if zsum rest ≤ 8 then (callF G d mX4_findFewest [zr r0, zi x1, zi x2] h).bind (zback (runF G) d mX4_set pc ls rest) else none := zK_call2 (d' := d) rfl rfl (Nat.le_of_ble_eq_true rfl)
theorem cK_X4_set_X4_isDay {G : Nat → Option Nat} {d pc : Nat} {ls : zLs} {rest : List zV} {h : zH} {x0 : Int32} : zK2 (runF G) d mX4_set pc (zcallTo d mX4_set 142 [zi x0] h ls rest) = if zsum rest ≤ 8 then (callF G d mX4_isDay [zi x0] h).bind (zback (runF G) d mX4_set pc ls rest) else none := zK_call2 (d' := d) rfl rfl (Nat.le_of_ble_eq_true rfl)
theorem cK_X4_fair_X4_isSeen {G : Nat → Option Nat} {d pc : Nat} {ls : zLs} {rest : List zV} {h : zH} {r0 : Option Nat} {x1 : Int32} : zK2 (runF G) d mX4_fair pc (zcallTo d mX4_fair 122 [zr r0, zi x1] h ls rest) = if zsum rest ≤ 8 then (callF G d mX4_isSeen [zr r0, zi x1] h).bind (zback (runF G) d mX4_fair pc ls rest) else none := zK_call2 (d' := d) rfl rfl (Nat.le_of_ble_eq_true rfl)
theorem cK_X4_fair_X4_findLeans {G : Nat → Option Nat} {d pc : Nat} {ls : zLs} {rest : List zV} {h : zH} {r0 : Option Nat} : zK2 (runF G) d mX4_fair pc (zcallTo d mX4_fair 145 [zr r0] h ls rest) = if zsum rest ≤ 8 then (callF G d mX4_findLeans [zr r0] h).bind (zback (runF G) d mX4_fair pc ls rest) else none := zK_call2 (d' := d) rfl rfl (Nat.le_of_ble_eq_true rfl)
theorem cK_X4_fair_X4_fairOf {G : Nat → Option Nat} {d pc : Nat} {ls : zLs} {rest : List zV} {h : zH} {r0 : Option Nat} {x1 : Int32} : zK2 (runF G) d mX4_fair pc (zcallTo d mX4_fair 147 [zr r0, zi x1] h ls rest) = if zsum rest ≤ 8 then (callF G d mX4_fairOf [zr r0, zi x1] h).bind (zback (runF G) d mX4_fair pc ls rest) else none := zK_call2 (d' := d) rfl rfl (Nat.le_of_ble_eq_true rfl)
theorem cK_X4_findLeans_X4_findAll {G : Nat → Option Nat} {d pc : Nat} {ls : zLs} {rest : List zV} {h : zH} {r0 : Option Nat} : zK2 (runF G) d mX4_findLeans pc (zcallTo d mX4_findLeans 124 [zr r0] h ls rest) = if zsum rest ≤ 8 then (callF G d mX4_findAll [zr r0] h).bind (zback (runF G) d mX4_findLeans pc ls rest) else none := zK_call2 (d' := d) rfl rfl (Nat.le_of_ble_eq_true rfl)
theorem cK_X4_findLeans_X4_isMeeting {G : Nat → Option Nat} {d pc : Nat} {ls : zLs} {rest : List zV} {h : zH} {r0 : Option Nat} {x1 : Int32} {x2 : Int32} : zK2 (runF G) d mX4_findLeans pc (zcallTo d mX4_findLeans 146 [zr r0, zi x1, zi x2] h ls rest) = if zsum rest ≤ 8 then (callF G d mX4_isMeeting [zr r0, zi x1, zi x2] h).bind (zback (runF G) d mX4_findLeans pc ls rest) else none := zK_call2 (d' := d) rfl rfl (Nat.le_of_ble_eq_true rfl)
theorem cK_X4_isMeeting_X4_counts {G : Nat → Option Nat} {d pc : Nat} {ls : zLs} {rest : List zV} {h : zH} {r0 : Option Nat} {x1 : Int32} : zK2 (runF G) d mX4_isMeeting pc (zcallTo d mX4_isMeeting 140 [zr r0, zi x1] h ls rest) = if zsum rest ≤ 8 then (callF G d mX4_counts [zr r0, zi x1] h).bind (zback (runF G) d mX4_isMeeting pc ls rest) else none := zK_call2 (d' := d) rfl rfl (Nat.le_of_ble_eq_true rfl)
theorem cK_X4_lean_X4_isBuyer {G : Nat → Option Nat} {d pc : Nat} {ls : zLs} {rest : List zV} {h : zH} {r0 : Option Nat} {x1 : Int32} : zK2 (runF G) d mX4_lean pc (zcallTo d mX4_lean 118 [zr r0, zi x1] h ls rest) = if zsum rest ≤ 8 then (callF G d mX4_isBuyer [zr r0, zi x1] h).bind (zback (runF G) d mX4_lean pc ls rest) else none := zK_call2 (d' := d) rfl rfl (Nat.le_of_ble_eq_true rfl)
theorem cK_X4_lean_X4_findLeans {G : Nat → Option Nat} {d pc : Nat} {ls : zLs} {rest : List zV} {h : zH} {r0 : Option Nat} : zK2 (runF G) d mX4_lean pc (zcallTo d mX4_lean 145 [zr r0] h ls rest) = if zsum rest ≤ 8 then (callF G d mX4_findLeans [zr r0] h).bind (zback (runF G) d mX4_lean pc ls rest) else none := zK_call2 (d' := d) rfl rfl (Nat.le_of_ble_eq_true rfl)
theorem cK_X4_meetings_X4_isBuyer {G : Nat → Option Nat} {d pc : Nat} {ls : zLs} {rest : List zV} {h : zH} {r0 : Option Nat} {x1 : Int32} : zK2 (runF G) d mX4_meetings pc (zcallTo d mX4_meetings 118 [zr r0, zi x1] h ls rest) = if zsum rest ≤ 8 then (callF G d mX4_isBuyer [zr r0, zi x1] h).bind (zback (runF G) d mX4_meetings pc ls rest) else none := zK_call2 (d' := d) rfl rfl (Nat.le_of_ble_eq_true rfl)
theorem cK_X4_meetings_X4_findAll {G : Nat → Option Nat} {d pc : Nat} {ls : zLs} {rest : List zV} {h : zH} {r0 : Option Nat} : zK2 (runF G) d mX4_meetings pc (zcallTo d mX4_meetings 124 [zr r0] h ls rest) = if zsum rest ≤ 8 then (callF G d mX4_findAll [zr r0] h).bind (zback (runF G) d mX4_meetings pc ls rest) else none := zK_call2 (d' := d) rfl rfl (Nat.le_of_ble_eq_true rfl)
theorem cK_X4_meetings_X4_isMeeting {G : Nat → Option Nat} {d pc : Nat} {ls : zLs} {rest : List zV} {h : zH} {r0 : Option Nat} {x1 : Int32} {x2 : Int32} : zK2 (runF G) d mX4_meetings pc (zcallTo d mX4_meetings 146 [zr r0, zi x1, zi x2] h ls rest) = if zsum rest ≤ 8 then (callF G d mX4_isMeeting [zr r0, zi x1, zi x2] h).bind (zback (runF G) d mX4_meetings pc ls rest) else none := zK_call2 (d' := d) rfl rfl (Nat.le_of_ble_eq_true rfl)
theorem cK_X4_mean_X4_hasMean {G : Nat → Option Nat} {d pc : Nat} {ls : zLs} {rest : List zV} {h : zH} {r0 : Option Nat} {x1 : Int32} {x2 : Int32} {x3 : Int32} : zK2 (runF G) d mX4_mean pc (zcallTo d mX4_mean 151 [zr r0, zi x1, zi x2, zi x3] h ls rest) = if zsum rest ≤ 8 then (callF G d mX4_hasMean [zr r0, zi x1, zi x2, zi x3] h).bind (zback (runF G) d mX4_mean pc ls rest) else none := zK_call2 (d' := d) rfl rfl (Nat.le_of_ble_eq_true rfl)
theorem cK_X4_hasMean_X4_isShop {G : Nat → Option Nat} {d pc : Nat} {ls : zLs} {rest : List zV} {h : zH} {r0 : Option Nat} {x1 : Int32} : zK2 (runF G) d mX4_hasMean pc (zcallTo d mX4_hasMean 117 [zr r0, zi x1] h ls rest) = if zsum rest ≤ 8 then (callF G d mX4_isShop [zr r0, zi x1] h).bind (zback (runF G) d mX4_hasMean pc ls rest) else none := zK_call2 (d' := d) rfl rfl (Nat.le_of_ble_eq_true rfl)
theorem cK_X4_hasMean_X4_areDays {G : Nat → Option Nat} {d pc : Nat} {ls : zLs} {rest : List zV} {h : zH} {x0 : Int32} {x1 : Int32} : zK2 (runF G) d mX4_hasMean pc (zcallTo d mX4_hasMean 152 [zi x0, zi x1] h ls rest) = if zsum rest ≤ 8 then (callF G d mX4_areDays [zi x0, zi x1] h).bind (zback (runF G) d mX4_hasMean pc ls rest) else none := zK_call2 (d' := d) rfl rfl (Nat.le_of_ble_eq_true rfl)
theorem cK_X4_hasMean_X4_findMeans {G : Nat → Option Nat} {d pc : Nat} {ls : zLs} {rest : List zV} {h : zH} {r0 : Option Nat} {x1 : Int32} {x2 : Int32} : zK2 (runF G) d mX4_hasMean pc (zcallTo d mX4_hasMean 153 [zr r0, zi x1, zi x2] h ls rest) = if zsum rest ≤ 8 then (callF G d mX4_findMeans [zr r0, zi x1, zi x2] h).bind (zback (runF G) d mX4_hasMean pc ls rest) else none := zK_call2 (d' := d) rfl rfl (Nat.le_of_ble_eq_true rfl)
theorem cK_X4_areDays_X4_isDay {G : Nat → Option Nat} {d pc : Nat} {ls : zLs} {rest : List zV} {h : zH} {x0 : Int32} : zK2 (runF G) d mX4_areDays pc (zcallTo d mX4_areDays 142 [zi x0] h ls rest) = if zsum rest ≤ 8 then (callF G d mX4_isDay [zi x0] h).bind (zback (runF G) d mX4_areDays pc ls rest) else none := zK_call2 (d' := d) rfl rfl (Nat.le_of_ble_eq_true rfl)
theorem cK_X4_findMeans_X4_within {G : Nat → Option Nat} {d pc : Nat} {ls : zLs} {rest : List zV} {h : zH} {x0 : Int32} {x1 : Int32} {x2 : Int32} : zK2 (runF G) d mX4_findMeans pc (zcallTo d mX4_findMeans 109 [zi x0, zi x1, zi x2] h ls rest) = if zsum rest ≤ 8 then (callF G d mX4_within [zi x0, zi x1, zi x2] h).bind (zback (runF G) d mX4_findMeans pc ls rest) else none := zK_call2 (d' := d) rfl rfl (Nat.le_of_ble_eq_true rfl)
theorem cK_X4_findMeans_X4_counts {G : Nat → Option Nat} {d pc : Nat} {ls : zLs} {rest : List zV} {h : zH} {r0 : Option Nat} {x1 : Int32} : zK2 (runF G) d mX4_findMeans pc (zcallTo d mX4_findMeans 140 [zr r0, zi x1] h ls rest) = if zsum rest ≤ 8 then (callF G d mX4_counts [zr r0, zi x1] h).bind (zback (runF G) d mX4_findMeans pc ls rest) else none := zK_call2 (d' := d) rfl rfl (Nat.le_of_ble_eq_true rfl)
theorem cK_X4_findMeans_X4_findLeans {G : Nat → Option Nat} {d pc : Nat} {ls : zLs} {rest : List zV} {h : zH} {r0 : Option Nat} : zK2 (runF G) d mX4_findMeans pc (zcallTo d mX4_findMeans 145 [zr r0] h ls rest) = if zsum rest ≤ 8 then (callF G d mX4_findLeans [zr r0] h).bind (zback (runF G) d mX4_findMeans pc ls rest) else none := zK_call2 (d' := d) rfl rfl (Nat.le_of_ble_eq_true rfl)
theorem cK_X4_findMeans_X4_fairOf {G : Nat → Option Nat} {d pc : Nat} {ls : zLs} {rest : List zV} {h : zH} {r0 : Option Nat} {x1 : Int32} : zK2 (runF G) d mX4_findMeans pc (zcallTo d mX4_findMeans 147 [zr r0, zi x1] h ls rest) = if zsum rest ≤ 8 then (callF G d mX4_fairOf [zr r0, zi x1] h).bind (zback (runF G) d mX4_findMeans pc ls rest) else none := zK_call2 (d' := d) rfl rfl (Nat.le_of_ble_eq_true rfl)
theorem cK_X4_doubt_X4_hasMean {G : Nat → Option Nat} {d pc : Nat} {ls : zLs} {rest : List zV} {h : zH} {r0 : Option Nat} {x1 : Int32} {x2 : Int32} {x3 : Int32} : zK2 (runF G) d mX4_doubt pc (zcallTo d mX4_doubt 151 [zr r0, zi x1, zi x2, zi x3] h ls rest) = if zsum rest ≤ 8 then (callF G d mX4_hasMean [zr r0, zi x1, zi x2, zi x3] h).bind (zback (runF G) d mX4_doubt pc ls rest) else none := zK_call2 (d' := d) rfl rfl (Nat.le_of_ble_eq_true rfl)
theorem cK_X4_doubt_X4_doubtOf {G : Nat → Option Nat} {d pc : Nat} {ls : zLs} {rest : List zV} {h : zH} {r0 : Option Nat} {x1 : Int32} : zK2 (runF G) d mX4_doubt pc (zcallTo d mX4_doubt 155 [zr r0, zi x1] h ls rest) = if zsum rest ≤ 8 then (callF G d mX4_doubtOf [zr r0, zi x1] h).bind (zback (runF G) d mX4_doubt pc ls rest) else none := zK_call2 (d' := d) rfl rfl (Nat.le_of_ble_eq_true rfl)
theorem cK_X4_apart_X4_areTwo {G : Nat → Option Nat} {d pc : Nat} {ls : zLs} {rest : List zV} {h : zH} {r0 : Option Nat} {x1 : Int32} {x2 : Int32} {x3 : Int32} {x4 : Int32} : zK2 (runF G) d mX4_apart pc (zcallTo d mX4_apart 157 [zr r0, zi x1, zi x2, zi x3, zi x4] h ls rest) = if zsum rest ≤ 8 then (callF G d mX4_areTwo [zr r0, zi x1, zi x2, zi x3, zi x4] h).bind (zback (runF G) d mX4_apart pc ls rest) else none := zK_call2 (d' := d) rfl rfl (Nat.le_of_ble_eq_true rfl)
theorem cK_X4_apart_X4_isLess {G : Nat → Option Nat} {d pc : Nat} {ls : zLs} {rest : List zV} {h : zH} {r0 : Option Nat} {x1 : Int32} {x2 : Int32} : zK2 (runF G) d mX4_apart pc (zcallTo d mX4_apart 158 [zr r0, zi x1, zi x2] h ls rest) = if zsum rest ≤ 8 then (callF G d mX4_isLess [zr r0, zi x1, zi x2] h).bind (zback (runF G) d mX4_apart pc ls rest) else none := zK_call2 (d' := d) rfl rfl (Nat.le_of_ble_eq_true rfl)
theorem cK_X4_areTwo_X4_hasMean {G : Nat → Option Nat} {d pc : Nat} {ls : zLs} {rest : List zV} {h : zH} {r0 : Option Nat} {x1 : Int32} {x2 : Int32} {x3 : Int32} : zK2 (runF G) d mX4_areTwo pc (zcallTo d mX4_areTwo 151 [zr r0, zi x1, zi x2, zi x3] h ls rest) = if zsum rest ≤ 8 then (callF G d mX4_hasMean [zr r0, zi x1, zi x2, zi x3] h).bind (zback (runF G) d mX4_areTwo pc ls rest) else none := zK_call2 (d' := d) rfl rfl (Nat.le_of_ble_eq_true rfl)
theorem cK_X4_isLess_X4_doubtOf {G : Nat → Option Nat} {d pc : Nat} {ls : zLs} {rest : List zV} {h : zH} {r0 : Option Nat} {x1 : Int32} : zK2 (runF G) d mX4_isLess pc (zcallTo d mX4_isLess 155 [zr r0, zi x1] h ls rest) = if zsum rest ≤ 8 then (callF G d mX4_doubtOf [zr r0, zi x1] h).bind (zback (runF G) d mX4_isLess pc ls rest) else none := zK_call2 (d' := d) rfl rfl (Nat.le_of_ble_eq_true rfl)
theorem cK_X4_order_X4_within {G : Nat → Option Nat} {d pc : Nat} {ls : zLs} {rest : List zV} {h : zH} {x0 : Int32} {x1 : Int32} {x2 : Int32} : zK2 (runF G) d mX4_order pc (zcallTo d mX4_order 109 [zi x0, zi x1, zi x2] h ls rest) = if zsum rest ≤ 8 then (callF G d mX4_within [zi x0, zi x1, zi x2] h).bind (zback (runF G) d mX4_order pc ls rest) else none := zK_call2 (d' := d) rfl rfl (Nat.le_of_ble_eq_true rfl)
theorem cK_X4_order_X4_areDays {G : Nat → Option Nat} {d pc : Nat} {ls : zLs} {rest : List zV} {h : zH} {x0 : Int32} {x1 : Int32} : zK2 (runF G) d mX4_order pc (zcallTo d mX4_order 152 [zi x0, zi x1] h ls rest) = if zsum rest ≤ 8 then (callF G d mX4_areDays [zi x0, zi x1] h).bind (zback (runF G) d mX4_order pc ls rest) else none := zK_call2 (d' := d) rfl rfl (Nat.le_of_ble_eq_true rfl)
theorem cK_X4_order_X4_findMeans {G : Nat → Option Nat} {d pc : Nat} {ls : zLs} {rest : List zV} {h : zH} {r0 : Option Nat} {x1 : Int32} {x2 : Int32} : zK2 (runF G) d mX4_order pc (zcallTo d mX4_order 153 [zr r0, zi x1, zi x2] h ls rest) = if zsum rest ≤ 8 then (callF G d mX4_findMeans [zr r0, zi x1, zi x2] h).bind (zback (runF G) d mX4_order pc ls rest) else none := zK_call2 (d' := d) rfl rfl (Nat.le_of_ble_eq_true rfl)
theorem cK_X4_order_X4_isLess {G : Nat → Option Nat} {d pc : Nat} {ls : zLs} {rest : List zV} {h : zH} {r0 : Option Nat} {x1 : Int32} {x2 : Int32} : zK2 (runF G) d mX4_order pc (zcallTo d mX4_order 158 [zr r0, zi x1, zi x2] h ls rest) = if zsum rest ≤ 8 then (callF G d mX4_isLess [zr r0, zi x1, zi x2] h).bind (zback (runF G) d mX4_order pc ls rest) else none := zK_call2 (d' := d) rfl rfl (Nat.le_of_ble_eq_true rfl)
theorem cK_X4_enough_X4_areTwo {G : Nat → Option Nat} {d pc : Nat} {ls : zLs} {rest : List zV} {h : zH} {r0 : Option Nat} {x1 : Int32} {x2 : Int32} {x3 : Int32} {x4 : Int32} : zK2 (runF G) d mX4_enough pc (zcallTo d mX4_enough 157 [zr r0, zi x1, zi x2, zi x3, zi x4] h ls rest) = if zsum rest ≤ 8 then (callF G d mX4_areTwo [zr r0, zi x1, zi x2, zi x3, zi x4] h).bind (zback (runF G) d mX4_enough pc ls rest) else none := zK_call2 (d' := d) rfl rfl (Nat.le_of_ble_eq_true rfl)
theorem cK_X4_may_X4_isShop {G : Nat → Option Nat} {d pc : Nat} {ls : zLs} {rest : List zV} {h : zH} {r0 : Option Nat} {x1 : Int32} : zK2 (runF G) d mX4_may pc (zcallTo d mX4_may 117 [zr r0, zi x1] h ls rest) = if zsum rest ≤ 8 then (callF G d mX4_isShop [zr r0, zi x1] h).bind (zback (runF G) d mX4_may pc ls rest) else none := zK_call2 (d' := d) rfl rfl (Nat.le_of_ble_eq_true rfl)
theorem cK_X4_may_X4_isBuyer {G : Nat → Option Nat} {d pc : Nat} {ls : zLs} {rest : List zV} {h : zH} {r0 : Option Nat} {x1 : Int32} : zK2 (runF G) d mX4_may pc (zcallTo d mX4_may 118 [zr r0, zi x1] h ls rest) = if zsum rest ≤ 8 then (callF G d mX4_isBuyer [zr r0, zi x1] h).bind (zback (runF G) d mX4_may pc ls rest) else none := zK_call2 (d' := d) rfl rfl (Nat.le_of_ble_eq_true rfl)
theorem cK_X4_may_X4_isDay {G : Nat → Option Nat} {d pc : Nat} {ls : zLs} {rest : List zV} {h : zH} {x0 : Int32} : zK2 (runF G) d mX4_may pc (zcallTo d mX4_may 142 [zi x0] h ls rest) = if zsum rest ≤ 8 then (callF G d mX4_isDay [zi x0] h).bind (zback (runF G) d mX4_may pc ls rest) else none := zK_call2 (d' := d) rfl rfl (Nat.le_of_ble_eq_true rfl)
theorem cK_X4_may_X4_mayGo {G : Nat → Option Nat} {d pc : Nat} {ls : zLs} {rest : List zV} {h : zH} {r0 : Option Nat} {x1 : Int32} {x2 : Int32} {x3 : Int32} : zK2 (runF G) d mX4_may pc (zcallTo d mX4_may 162 [zr r0, zi x1, zi x2, zi x3] h ls rest) = if zsum rest ≤ 8 then (callF G d mX4_mayGo [zr r0, zi x1, zi x2, zi x3] h).bind (zback (runF G) d mX4_may pc ls rest) else none := zK_call2 (d' := d) rfl rfl (Nat.le_of_ble_eq_true rfl)
theorem cK_X4_mayGo_X4_isSeen {G : Nat → Option Nat} {d pc : Nat} {ls : zLs} {rest : List zV} {h : zH} {r0 : Option Nat} {x1 : Int32} : zK2 (runF G) d mX4_mayGo pc (zcallTo d mX4_mayGo 122 [zr r0, zi x1] h ls rest) = if zsum rest ≤ 8 then (callF G d mX4_isSeen [zr r0, zi x1] h).bind (zback (runF G) d mX4_mayGo pc ls rest) else none := zK_call2 (d' := d) rfl rfl (Nat.le_of_ble_eq_true rfl)
theorem cK_X4_mayGo_X4_wayBetween {G : Nat → Option Nat} {d pc : Nat} {ls : zLs} {rest : List zV} {h : zH} {x0 : Int32} {x1 : Int32} {x2 : Int32} {x3 : Int32} : zK2 (runF G) d mX4_mayGo pc (zcallTo d mX4_mayGo 137 [zi x0, zi x1, zi x2, zi x3] h ls rest) = if zsum rest ≤ 8 then (callF G d mX4_wayBetween [zi x0, zi x1, zi x2, zi x3] h).bind (zback (runF G) d mX4_mayGo pc ls rest) else none := zK_call2 (d' := d) rfl rfl (Nat.le_of_ble_eq_true rfl)
theorem cK_X4_given_X4_within {G : Nat → Option Nat} {d pc : Nat} {ls : zLs} {rest : List zV} {h : zH} {x0 : Int32} {x1 : Int32} {x2 : Int32} : zK2 (runF G) d mX4_given pc (zcallTo d mX4_given 109 [zi x0, zi x1, zi x2] h ls rest) = if zsum rest ≤ 8 then (callF G d mX4_within [zi x0, zi x1, zi x2] h).bind (zback (runF G) d mX4_given pc ls rest) else none := zK_call2 (d' := d) rfl rfl (Nat.le_of_ble_eq_true rfl)
theorem cK_X4_given_X4_bits {G : Nat → Option Nat} {d pc : Nat} {ls : zLs} {rest : List zV} {h : zH} {x0 : Int32} : zK2 (runF G) d mX4_given pc (zcallTo d mX4_given 129 [zi x0] h ls rest) = if zsum rest ≤ 8 then (callF G d mX4_bits [zi x0] h).bind (zback (runF G) d mX4_given pc ls rest) else none := zK_call2 (d' := d) rfl rfl (Nat.le_of_ble_eq_true rfl)
theorem cK_X4_given_X4_isDay {G : Nat → Option Nat} {d pc : Nat} {ls : zLs} {rest : List zV} {h : zH} {x0 : Int32} : zK2 (runF G) d mX4_given pc (zcallTo d mX4_given 142 [zi x0] h ls rest) = if zsum rest ≤ 8 then (callF G d mX4_isDay [zi x0] h).bind (zback (runF G) d mX4_given pc ls rest) else none := zK_call2 (d' := d) rfl rfl (Nat.le_of_ble_eq_true rfl)
theorem cK_X4_given_X4_gives {G : Nat → Option Nat} {d pc : Nat} {ls : zLs} {rest : List zV} {h : zH} {r0 : Option Nat} {x1 : Int32} {x2 : Int32} : zK2 (runF G) d mX4_given pc (zcallTo d mX4_given 164 [zr r0, zi x1, zi x2] h ls rest) = if zsum rest ≤ 8 then (callF G d mX4_gives [zr r0, zi x1, zi x2] h).bind (zback (runF G) d mX4_given pc ls rest) else none := zK_call2 (d' := d) rfl rfl (Nat.le_of_ble_eq_true rfl)
theorem cK_X4_gives_X4_mayGo {G : Nat → Option Nat} {d pc : Nat} {ls : zLs} {rest : List zV} {h : zH} {r0 : Option Nat} {x1 : Int32} {x2 : Int32} {x3 : Int32} : zK2 (runF G) d mX4_gives pc (zcallTo d mX4_gives 162 [zr r0, zi x1, zi x2, zi x3] h ls rest) = if zsum rest ≤ 8 then (callF G d mX4_mayGo [zr r0, zi x1, zi x2, zi x3] h).bind (zback (runF G) d mX4_gives pc ls rest) else none := zK_call2 (d' := d) rfl rfl (Nat.le_of_ble_eq_true rfl)
theorem cK_X4_gives_X4_wayOf {G : Nat → Option Nat} {d pc : Nat} {ls : zLs} {rest : List zV} {h : zH} {r0 : Option Nat} {x1 : Int32} {x2 : Int32} : zK2 (runF G) d mX4_gives pc (zcallTo d mX4_gives 165 [zr r0, zi x1, zi x2] h ls rest) = if zsum rest ≤ 8 then (callF G d mX4_wayOf [zr r0, zi x1, zi x2] h).bind (zback (runF G) d mX4_gives pc ls rest) else none := zK_call2 (d' := d) rfl rfl (Nat.le_of_ble_eq_true rfl)
theorem cK_X4_gives_X4_sumBy {G : Nat → Option Nat} {d pc : Nat} {ls : zLs} {rest : List zV} {h : zH} {r0 : Option Nat} {x1 : Int32} {x2 : Int32} {x3 : Int32} : zK2 (runF G) d mX4_gives pc (zcallTo d mX4_gives 166 [zr r0, zi x1, zi x2, zi x3] h ls rest) = if zsum rest ≤ 8 then (callF G d mX4_sumBy [zr r0, zi x1, zi x2, zi x3] h).bind (zback (runF G) d mX4_gives pc ls rest) else none := zK_call2 (d' := d) rfl rfl (Nat.le_of_ble_eq_true rfl)
theorem cK_X4_wayOf_X4_wayBetween {G : Nat → Option Nat} {d pc : Nat} {ls : zLs} {rest : List zV} {h : zH} {x0 : Int32} {x1 : Int32} {x2 : Int32} {x3 : Int32} : zK2 (runF G) d mX4_wayOf pc (zcallTo d mX4_wayOf 137 [zi x0, zi x1, zi x2, zi x3] h ls rest) = if zsum rest ≤ 8 then (callF G d mX4_wayBetween [zi x0, zi x1, zi x2, zi x3] h).bind (zback (runF G) d mX4_wayOf pc ls rest) else none := zK_call2 (d' := d) rfl rfl (Nat.le_of_ble_eq_true rfl)
theorem cK_X4_drawn_X4_within {G : Nat → Option Nat} {d pc : Nat} {ls : zLs} {rest : List zV} {h : zH} {x0 : Int32} {x1 : Int32} {x2 : Int32} : zK2 (runF G) d mX4_drawn pc (zcallTo d mX4_drawn 109 [zi x0, zi x1, zi x2] h ls rest) = if zsum rest ≤ 8 then (callF G d mX4_within [zi x0, zi x1, zi x2] h).bind (zback (runF G) d mX4_drawn pc ls rest) else none := zK_call2 (d' := d) rfl rfl (Nat.le_of_ble_eq_true rfl)
theorem cK_X4_drawn_X4_isShop {G : Nat → Option Nat} {d pc : Nat} {ls : zLs} {rest : List zV} {h : zH} {r0 : Option Nat} {x1 : Int32} : zK2 (runF G) d mX4_drawn pc (zcallTo d mX4_drawn 117 [zr r0, zi x1] h ls rest) = if zsum rest ≤ 8 then (callF G d mX4_isShop [zr r0, zi x1] h).bind (zback (runF G) d mX4_drawn pc ls rest) else none := zK_call2 (d' := d) rfl rfl (Nat.le_of_ble_eq_true rfl)
theorem cK_X4_drawn_X4_latest {G : Nat → Option Nat} {d pc : Nat} {ls : zLs} {rest : List zV} {h : zH} {r0 : Option Nat} {x1 : Int32} {x2 : Int32} : zK2 (runF G) d mX4_drawn pc (zcallTo d mX4_drawn 126 [zr r0, zi x1, zi x2] h ls rest) = if zsum rest ≤ 8 then (callF G d mX4_latest [zr r0, zi x1, zi x2] h).bind (zback (runF G) d mX4_drawn pc ls rest) else none := zK_call2 (d' := d) rfl rfl (Nat.le_of_ble_eq_true rfl)
theorem cK_X4_sway_X4_within {G : Nat → Option Nat} {d pc : Nat} {ls : zLs} {rest : List zV} {h : zH} {x0 : Int32} {x1 : Int32} {x2 : Int32} : zK2 (runF G) d mX4_sway pc (zcallTo d mX4_sway 109 [zi x0, zi x1, zi x2] h ls rest) = if zsum rest ≤ 8 then (callF G d mX4_within [zi x0, zi x1, zi x2] h).bind (zback (runF G) d mX4_sway pc ls rest) else none := zK_call2 (d' := d) rfl rfl (Nat.le_of_ble_eq_true rfl)
theorem cK_X4_sway_X4_isShop {G : Nat → Option Nat} {d pc : Nat} {ls : zLs} {rest : List zV} {h : zH} {r0 : Option Nat} {x1 : Int32} : zK2 (runF G) d mX4_sway pc (zcallTo d mX4_sway 117 [zr r0, zi x1] h ls rest) = if zsum rest ≤ 8 then (callF G d mX4_isShop [zr r0, zi x1] h).bind (zback (runF G) d mX4_sway pc ls rest) else none := zK_call2 (d' := d) rfl rfl (Nat.le_of_ble_eq_true rfl)
theorem cK_X4_sway_X4_findAll {G : Nat → Option Nat} {d pc : Nat} {ls : zLs} {rest : List zV} {h : zH} {r0 : Option Nat} : zK2 (runF G) d mX4_sway pc (zcallTo d mX4_sway 124 [zr r0] h ls rest) = if zsum rest ≤ 8 then (callF G d mX4_findAll [zr r0] h).bind (zback (runF G) d mX4_sway pc ls rest) else none := zK_call2 (d' := d) rfl rfl (Nat.le_of_ble_eq_true rfl)
theorem cK_X4_sway_X4_latest {G : Nat → Option Nat} {d pc : Nat} {ls : zLs} {rest : List zV} {h : zH} {r0 : Option Nat} {x1 : Int32} {x2 : Int32} : zK2 (runF G) d mX4_sway pc (zcallTo d mX4_sway 126 [zr r0, zi x1, zi x2] h ls rest) = if zsum rest ≤ 8 then (callF G d mX4_latest [zr r0, zi x1, zi x2] h).bind (zback (runF G) d mX4_sway pc ls rest) else none := zK_call2 (d' := d) rfl rfl (Nat.le_of_ble_eq_true rfl)
theorem cK_X4_sway_X4_formNow {G : Nat → Option Nat} {d pc : Nat} {ls : zLs} {rest : List zV} {h : zH} {r0 : Option Nat} {x1 : Int32} : zK2 (runF G) d mX4_sway pc (zcallTo d mX4_sway 127 [zr r0, zi x1] h ls rest) = if zsum rest ≤ 8 then (callF G d mX4_formNow [zr r0, zi x1] h).bind (zback (runF G) d mX4_sway pc ls rest) else none := zK_call2 (d' := d) rfl rfl (Nat.le_of_ble_eq_true rfl)
theorem cK_X4_sway_X4_tells {G : Nat → Option Nat} {d pc : Nat} {ls : zLs} {rest : List zV} {h : zH} {r0 : Option Nat} {x1 : Int32} {x2 : Int32} {x3 : Int32} : zK2 (runF G) d mX4_sway pc (zcallTo d mX4_sway 128 [zr r0, zi x1, zi x2, zi x3] h ls rest) = if zsum rest ≤ 8 then (callF G d mX4_tells [zr r0, zi x1, zi x2, zi x3] h).bind (zback (runF G) d mX4_sway pc ls rest) else none := zK_call2 (d' := d) rfl rfl (Nat.le_of_ble_eq_true rfl)
theorem cK_X4_sway_X4_briefOf {G : Nat → Option Nat} {d pc : Nat} {ls : zLs} {rest : List zV} {h : zH} {r0 : Option Nat} {x1 : Int32} : zK2 (runF G) d mX4_sway pc (zcallTo d mX4_sway 130 [zr r0, zi x1] h ls rest) = if zsum rest ≤ 8 then (callF G d mX4_briefOf [zr r0, zi x1] h).bind (zback (runF G) d mX4_sway pc ls rest) else none := zK_call2 (d' := d) rfl rfl (Nat.le_of_ble_eq_true rfl)
theorem cK_X4_sway_X4_judges {G : Nat → Option Nat} {d pc : Nat} {ls : zLs} {rest : List zV} {h : zH} {r0 : Option Nat} {x1 : Int32} : zK2 (runF G) d mX4_sway pc (zcallTo d mX4_sway 131 [zr r0, zi x1] h ls rest) = if zsum rest ≤ 8 then (callF G d mX4_judges [zr r0, zi x1] h).bind (zback (runF G) d mX4_sway pc ls rest) else none := zK_call2 (d' := d) rfl rfl (Nat.le_of_ble_eq_true rfl)
theorem cK_X4_sum_X4_within {G : Nat → Option Nat} {d pc : Nat} {ls : zLs} {rest : List zV} {h : zH} {x0 : Int32} {x1 : Int32} {x2 : Int32} : zK2 (runF G) d mX4_sum pc (zcallTo d mX4_sum 109 [zi x0, zi x1, zi x2] h ls rest) = if zsum rest ≤ 8 then (callF G d mX4_within [zi x0, zi x1, zi x2] h).bind (zback (runF G) d mX4_sum pc ls rest) else none := zK_call2 (d' := d) rfl rfl (Nat.le_of_ble_eq_true rfl)
theorem cK_X4_sum_X4_isBuyer {G : Nat → Option Nat} {d pc : Nat} {ls : zLs} {rest : List zV} {h : zH} {r0 : Option Nat} {x1 : Int32} : zK2 (runF G) d mX4_sum pc (zcallTo d mX4_sum 118 [zr r0, zi x1] h ls rest) = if zsum rest ≤ 8 then (callF G d mX4_isBuyer [zr r0, zi x1] h).bind (zback (runF G) d mX4_sum pc ls rest) else none := zK_call2 (d' := d) rfl rfl (Nat.le_of_ble_eq_true rfl)
theorem cK_X4_sum_X4_findAll {G : Nat → Option Nat} {d pc : Nat} {ls : zLs} {rest : List zV} {h : zH} {r0 : Option Nat} : zK2 (runF G) d mX4_sum pc (zcallTo d mX4_sum 124 [zr r0] h ls rest) = if zsum rest ≤ 8 then (callF G d mX4_findAll [zr r0] h).bind (zback (runF G) d mX4_sum pc ls rest) else none := zK_call2 (d' := d) rfl rfl (Nat.le_of_ble_eq_true rfl)
theorem cK_X4_sum_X4_counts {G : Nat → Option Nat} {d pc : Nat} {ls : zLs} {rest : List zV} {h : zH} {r0 : Option Nat} {x1 : Int32} : zK2 (runF G) d mX4_sum pc (zcallTo d mX4_sum 140 [zr r0, zi x1] h ls rest) = if zsum rest ≤ 8 then (callF G d mX4_counts [zr r0, zi x1] h).bind (zback (runF G) d mX4_sum pc ls rest) else none := zK_call2 (d' := d) rfl rfl (Nat.le_of_ble_eq_true rfl)
theorem cK_X4_sum_X4_areDays {G : Nat → Option Nat} {d pc : Nat} {ls : zLs} {rest : List zV} {h : zH} {x0 : Int32} {x1 : Int32} : zK2 (runF G) d mX4_sum pc (zcallTo d mX4_sum 152 [zi x0, zi x1] h ls rest) = if zsum rest ≤ 8 then (callF G d mX4_areDays [zi x0, zi x1] h).bind (zback (runF G) d mX4_sum pc ls rest) else none := zK_call2 (d' := d) rfl rfl (Nat.le_of_ble_eq_true rfl)
theorem cK_X4_sum_X4_wayOf {G : Nat → Option Nat} {d pc : Nat} {ls : zLs} {rest : List zV} {h : zH} {r0 : Option Nat} {x1 : Int32} {x2 : Int32} : zK2 (runF G) d mX4_sum pc (zcallTo d mX4_sum 165 [zr r0, zi x1, zi x2] h ls rest) = if zsum rest ≤ 8 then (callF G d mX4_wayOf [zr r0, zi x1, zi x2] h).bind (zback (runF G) d mX4_sum pc ls rest) else none := zK_call2 (d' := d) rfl rfl (Nat.le_of_ble_eq_true rfl)
theorem cK_X4_count_X4_isSeen {G : Nat → Option Nat} {d pc : Nat} {ls : zLs} {rest : List zV} {h : zH} {r0 : Option Nat} {x1 : Int32} : zK2 (runF G) d mX4_count pc (zcallTo d mX4_count 122 [zr r0, zi x1] h ls rest) = if zsum rest ≤ 8 then (callF G d mX4_isSeen [zr r0, zi x1] h).bind (zback (runF G) d mX4_count pc ls rest) else none := zK_call2 (d' := d) rfl rfl (Nat.le_of_ble_eq_true rfl)
theorem cK_X4_count_X4_findAll {G : Nat → Option Nat} {d pc : Nat} {ls : zLs} {rest : List zV} {h : zH} {r0 : Option Nat} : zK2 (runF G) d mX4_count pc (zcallTo d mX4_count 124 [zr r0] h ls rest) = if zsum rest ≤ 8 then (callF G d mX4_findAll [zr r0] h).bind (zback (runF G) d mX4_count pc ls rest) else none := zK_call2 (d' := d) rfl rfl (Nat.le_of_ble_eq_true rfl)
theorem cK_X4_count_X4_counts {G : Nat → Option Nat} {d pc : Nat} {ls : zLs} {rest : List zV} {h : zH} {r0 : Option Nat} {x1 : Int32} : zK2 (runF G) d mX4_count pc (zcallTo d mX4_count 140 [zr r0, zi x1] h ls rest) = if zsum rest ≤ 8 then (callF G d mX4_counts [zr r0, zi x1] h).bind (zback (runF G) d mX4_count pc ls rest) else none := zK_call2 (d' := d) rfl rfl (Nat.le_of_ble_eq_true rfl)
theorem cK_X6_way_J4_abs {G : Nat → Option Nat} {d pc : Nat} {ls : zLs} {rest : List zV} {h : zH} {x0 : Int32} : zK2 (runF G) d mX6_way pc (zcallTo d mX6_way 231 [zi x0] h ls rest) = if zsum rest ≤ 8 then (callF G d mJ4_abs [zi x0] h).bind (zback (runF G) d mX6_way pc ls rest) else none := zK_call2 (d' := d) rfl rfl (Nat.le_of_ble_eq_true rfl)
theorem cK_X7_canBeAlone_X7_behind {G : Nat → Option Nat} {d pc : Nat} {ls : zLs} {rest : List zV} {h : zH} {r0 : Option Nat} : zK2 (runF G) d mX7_canBeAlone pc (zcallTo d mX7_canBeAlone 176 [zr r0] h ls rest) = if zsum rest ≤ 8 then (callF G d mX7_behind [zr r0] h).bind (zback (runF G) d mX7_canBeAlone pc ls rest) else none := zK_call2 (d' := d) rfl rfl (Nat.le_of_ble_eq_true rfl)
theorem cK_X7_quarrels_X6_way {G : Nat → Option Nat} {d pc : Nat} {ls : zLs} {rest : List zV} {h : zH} {r0 : Option Nat} {r1 : Option Nat} : zK2 (runF G) d mX7_quarrels pc (zcallTo d mX7_quarrels 173 [zr r0, zr r1] h ls rest) = if zsum rest ≤ 8 then (callF G d mX6_way [zr r0, zr r1] h).bind (zback (runF G) d mX7_quarrels pc ls rest) else none := zK_call2 (d' := d) rfl rfl (Nat.le_of_ble_eq_true rfl)
theorem cK_X7_quarrels_X7_behind {G : Nat → Option Nat} {d pc : Nat} {ls : zLs} {rest : List zV} {h : zH} {r0 : Option Nat} : zK2 (runF G) d mX7_quarrels pc (zcallTo d mX7_quarrels 176 [zr r0] h ls rest) = if zsum rest ≤ 8 then (callF G d mX7_behind [zr r0] h).bind (zback (runF G) d mX7_quarrels pc ls rest) else none := zK_call2 (d' := d) rfl rfl (Nat.le_of_ble_eq_true rfl)
theorem cK_X7_quarrels_X7_isAheadOf {G : Nat → Option Nat} {d pc : Nat} {ls : zLs} {rest : List zV} {h : zH} {r0 : Option Nat} {r1 : Option Nat} : zK2 (runF G) d mX7_quarrels pc (zcallTo d mX7_quarrels 177 [zr r0, zr r1] h ls rest) = if zsum rest ≤ 8 then (callF G d mX7_isAheadOf [zr r0, zr r1] h).bind (zback (runF G) d mX7_quarrels pc ls rest) else none := zK_call2 (d' := d) rfl rfl (Nat.le_of_ble_eq_true rfl)
theorem cK_X7_meets_X7_counts {G : Nat → Option Nat} {d pc : Nat} {ls : zLs} {rest : List zV} {h : zH} {r0 : Option Nat} : zK2 (runF G) d mX7_meets pc (zcallTo d mX7_meets 180 [zr r0] h ls rest) = if zsum rest ≤ 8 then (callF G d mX7_counts [zr r0] h).bind (zback (runF G) d mX7_meets pc ls rest) else none := zK_call2 (d' := d) rfl rfl (Nat.le_of_ble_eq_true rfl)
theorem cK_X9_init_J2_init {G : Nat → Option Nat} {d pc : Nat} {ls : zLs} {rest : List zV} {h : zH} {r0 : Option Nat} {x1 : Int32} : zK2 (runF G) d mX9_init pc (zcallTo d mX9_init 213 [zr r0, zi x1] h ls rest) = if zsum rest ≤ 8 then (callF G d mJ2_init [zr r0, zi x1] h).bind (zback (runF G) d mX9_init pc ls rest) else none := zK_call2 (d' := d) rfl rfl (Nat.le_of_ble_eq_true rfl)
theorem cK_X9_score_X9_asks {G : Nat → Option Nat} {d pc : Nat} {ls : zLs} {rest : List zV} {h : zH} {r0 : Option Nat} {r1 : Option Nat} {r2 : Option Nat} {x3 : Int32} : zK2 (runF G) d mX9_score pc (zcallTo d mX9_score 184 [zr r0, zr r1, zr r2, zi x3] h ls rest) = if zsum rest ≤ 8 then (callF G d mX9_asks [zr r0, zr r1, zr r2, zi x3] h).bind (zback (runF G) d mX9_score pc ls rest) else none := zK_call2 (d' := d) rfl rfl (Nat.le_of_ble_eq_true rfl)
theorem cK_X9_score_J2_size {G : Nat → Option Nat} {d pc : Nat} {ls : zLs} {rest : List zV} {h : zH} {r0 : Option Nat} : zK2 (runF G) d mX9_score pc (zcallTo d mX9_score 214 [zr r0] h ls rest) = if zsum rest ≤ 8 then (callF G d mJ2_size [zr r0] h).bind (zback (runF G) d mX9_score pc ls rest) else none := zK_call2 (d' := d) rfl rfl (Nat.le_of_ble_eq_true rfl)
theorem cK_X9_score_J2_get {G : Nat → Option Nat} {d pc : Nat} {ls : zLs} {rest : List zV} {h : zH} {r0 : Option Nat} {x1 : Int32} : zK2 (runF G) d mX9_score pc (zcallTo d mX9_score 219 [zr r0, zi x1] h ls rest) = if zsum rest ≤ 8 then (callF G d mJ2_get [zr r0, zi x1] h).bind (zback (runF G) d mX9_score pc ls rest) else none := zK_call2 (d' := d) rfl rfl (Nat.le_of_ble_eq_true rfl)
theorem cK_X9_score_J4_max {G : Nat → Option Nat} {d pc : Nat} {ls : zLs} {rest : List zV} {h : zH} {x0 : Int32} {x1 : Int32} : zK2 (runF G) d mX9_score pc (zcallTo d mX9_score 229 [zi x0, zi x1] h ls rest) = if zsum rest ≤ 8 then (callF G d mJ4_max [zi x0, zi x1] h).bind (zback (runF G) d mX9_score pc ls rest) else none := zK_call2 (d' := d) rfl rfl (Nat.le_of_ble_eq_true rfl)
theorem cK_X9_score_J4_min {G : Nat → Option Nat} {d pc : Nat} {ls : zLs} {rest : List zV} {h : zH} {x0 : Int32} {x1 : Int32} : zK2 (runF G) d mX9_score pc (zcallTo d mX9_score 230 [zi x0, zi x1] h ls rest) = if zsum rest ≤ 8 then (callF G d mJ4_min [zi x0, zi x1] h).bind (zback (runF G) d mX9_score pc ls rest) else none := zK_call2 (d' := d) rfl rfl (Nat.le_of_ble_eq_true rfl)
theorem cK_X9_asks_X3_be {G : Nat → Option Nat} {d pc : Nat} {ls : zLs} {rest : List zV} {h : zH} {r0 : Option Nat} {r1 : Option Nat} {x2 : Int32} : zK2 (runF G) d mX9_asks pc (zcallTo d mX9_asks 77 [zr r0, zr r1, zi x2] h ls rest) = if zsum rest ≤ 8 then (callF G d mX3_be [zr r0, zr r1, zi x2] h).bind (zback (runF G) d mX9_asks pc ls rest) else none := zK_call2 (d' := d) rfl rfl (Nat.le_of_ble_eq_true rfl)
theorem cK_X9_asks_J2_size {G : Nat → Option Nat} {d pc : Nat} {ls : zLs} {rest : List zV} {h : zH} {r0 : Option Nat} : zK2 (runF G) d mX9_asks pc (zcallTo d mX9_asks 214 [zr r0] h ls rest) = if zsum rest ≤ 8 then (callF G d mJ2_size [zr r0] h).bind (zback (runF G) d mX9_asks pc ls rest) else none := zK_call2 (d' := d) rfl rfl (Nat.le_of_ble_eq_true rfl)
theorem cK_X9_asks_J2_get {G : Nat → Option Nat} {d pc : Nat} {ls : zLs} {rest : List zV} {h : zH} {r0 : Option Nat} {x1 : Int32} : zK2 (runF G) d mX9_asks pc (zcallTo d mX9_asks 219 [zr r0, zi x1] h ls rest) = if zsum rest ≤ 8 then (callF G d mJ2_get [zr r0, zi x1] h).bind (zback (runF G) d mX9_asks pc ls rest) else none := zK_call2 (d' := d) rfl rfl (Nat.le_of_ble_eq_true rfl)
theorem cK_X9_bonus_X9_asks {G : Nat → Option Nat} {d pc : Nat} {ls : zLs} {rest : List zV} {h : zH} {r0 : Option Nat} {r1 : Option Nat} {r2 : Option Nat} {x3 : Int32} : zK2 (runF G) d mX9_bonus pc (zcallTo d mX9_bonus 184 [zr r0, zr r1, zr r2, zi x3] h ls rest) = if zsum rest ≤ 8 then (callF G d mX9_asks [zr r0, zr r1, zr r2, zi x3] h).bind (zback (runF G) d mX9_bonus pc ls rest) else none := zK_call2 (d' := d) rfl rfl (Nat.le_of_ble_eq_true rfl)
theorem cK_X9_bonus_J2_size {G : Nat → Option Nat} {d pc : Nat} {ls : zLs} {rest : List zV} {h : zH} {r0 : Option Nat} : zK2 (runF G) d mX9_bonus pc (zcallTo d mX9_bonus 214 [zr r0] h ls rest) = if zsum rest ≤ 8 then (callF G d mJ2_size [zr r0] h).bind (zback (runF G) d mX9_bonus pc ls rest) else none := zK_call2 (d' := d) rfl rfl (Nat.le_of_ble_eq_true rfl)
theorem cK_X9_bonus_J2_get {G : Nat → Option Nat} {d pc : Nat} {ls : zLs} {rest : List zV} {h : zH} {r0 : Option Nat} {x1 : Int32} : zK2 (runF G) d mX9_bonus pc (zcallTo d mX9_bonus 219 [zr r0, zi x1] h ls rest) = if zsum rest ≤ 8 then (callF G d mJ2_get [zr r0, zi x1] h).bind (zback (runF G) d mX9_bonus pc ls rest) else none := zK_call2 (d' := d) rfl rfl (Nat.le_of_ble_eq_true rfl)
theorem cK_X10_init_J14_init {G : Nat → Option Nat} {d pc : Nat} {ls : zLs} {rest : List zV} {h : zH} {r0 : Option Nat} {r1 : Option Nat} {r2 : Option Nat} {x3 : Int32} {x4 : Int32} : zK2 (runF G) d mX10_init pc (zcallTo d mX10_init 286 [zr r0, zr r1, zr r2, zi x3, zi x4] h ls rest) = if zsum rest ≤ 8 then (callF G d mJ14_init [zr r0, zr r1, zr r2, zi x3, zi x4] h).bind (zback (runF G) d mX10_init pc ls rest) else none := zK_call2 (d' := d) rfl rfl (Nat.le_of_ble_eq_true rfl)
theorem cK_X12_init_X11_init {G : Nat → Option Nat} {d pc : Nat} {ls : zLs} {rest : List zV} {h : zH} {r0 : Option Nat} : zK2 (runF G) d mX12_init pc (zcallTo d mX12_init 187 [zr r0] h ls rest) = if zsum rest ≤ 8 then (callF G d mX11_init [zr r0] h).bind (zback (runF G) d mX12_init pc ls rest) else none := zK_call2 (d' := d) rfl rfl (Nat.le_of_ble_eq_true rfl)
theorem cK_X13_init_X11_init {G : Nat → Option Nat} {d pc : Nat} {ls : zLs} {rest : List zV} {h : zH} {r0 : Option Nat} : zK2 (runF G) d mX13_init pc (zcallTo d mX13_init 187 [zr r0] h ls rest) = if zsum rest ≤ 8 then (callF G d mX11_init [zr r0] h).bind (zback (runF G) d mX13_init pc ls rest) else none := zK_call2 (d' := d) rfl rfl (Nat.le_of_ble_eq_true rfl)
theorem cK_X14_init_X11_init {G : Nat → Option Nat} {d pc : Nat} {ls : zLs} {rest : List zV} {h : zH} {r0 : Option Nat} : zK2 (runF G) d mX14_init pc (zcallTo d mX14_init 187 [zr r0] h ls rest) = if zsum rest ≤ 8 then (callF G d mX11_init [zr r0] h).bind (zback (runF G) d mX14_init pc ls rest) else none := zK_call2 (d' := d) rfl rfl (Nat.le_of_ble_eq_true rfl)
theorem cK_X15_init_X11_init {G : Nat → Option Nat} {d pc : Nat} {ls : zLs} {rest : List zV} {h : zH} {r0 : Option Nat} : zK2 (runF G) d mX15_init pc (zcallTo d mX15_init 187 [zr r0] h ls rest) = if zsum rest ≤ 8 then (callF G d mX11_init [zr r0] h).bind (zback (runF G) d mX15_init pc ls rest) else none := zK_call2 (d' := d) rfl rfl (Nat.le_of_ble_eq_true rfl)
theorem cK_X16_init_X11_init {G : Nat → Option Nat} {d pc : Nat} {ls : zLs} {rest : List zV} {h : zH} {r0 : Option Nat} : zK2 (runF G) d mX16_init pc (zcallTo d mX16_init 187 [zr r0] h ls rest) = if zsum rest ≤ 8 then (callF G d mX11_init [zr r0] h).bind (zback (runF G) d mX16_init pc ls rest) else none := zK_call2 (d' := d) rfl rfl (Nat.le_of_ble_eq_true rfl)
theorem cK_X16_init_J2_init {G : Nat → Option Nat} {d pc : Nat} {ls : zLs} {rest : List zV} {h : zH} {r0 : Option Nat} {x1 : Int32} : zK2 (runF G) d mX16_init pc (zcallTo d mX16_init 213 [zr r0, zi x1] h ls rest) = if zsum rest ≤ 8 then (callF G d mJ2_init [zr r0, zi x1] h).bind (zback (runF G) d mX16_init pc ls rest) else none := zK_call2 (d' := d) rfl rfl (Nat.le_of_ble_eq_true rfl)
theorem cK_X16_init_J2_add {G : Nat → Option Nat} {d pc : Nat} {ls : zLs} {rest : List zV} {h : zH} {r0 : Option Nat} {r1 : Option Nat} : zK2 (runF G) d mX16_init pc (zcallTo d mX16_init 215 [zr r0, zr r1] h ls rest) = if zsum rest ≤ 8 then (callF G d mJ2_add [zr r0, zr r1] h).bind (zback (runF G) d mX16_init pc ls rest) else none := zK_call2 (d' := d) rfl rfl (Nat.le_of_ble_eq_true rfl)
theorem cK_X16_init_J16_init {G : Nat → Option Nat} {d pc : Nat} {ls : zLs} {rest : List zV} {h : zH} {r0 : Option Nat} {x1 : Int32} : zK2 (runF G) d mX16_init pc (zcallTo d mX16_init 297 [zr r0, zi x1] h ls rest) = if zsum rest ≤ 8 then (callF G d mJ16_init [zr r0, zi x1] h).bind (zback (runF G) d mX16_init pc ls rest) else none := zK_call2 (d' := d) rfl rfl (Nat.le_of_ble_eq_true rfl)
theorem cK_X16_and_J2_add {G : Nat → Option Nat} {d pc : Nat} {ls : zLs} {rest : List zV} {h : zH} {r0 : Option Nat} {r1 : Option Nat} : zK2 (runF G) d mX16_and pc (zcallTo d mX16_and 215 [zr r0, zr r1] h ls rest) = if zsum rest ≤ 8 then (callF G d mJ2_add [zr r0, zr r1] h).bind (zback (runF G) d mX16_and pc ls rest) else none := zK_call2 (d' := d) rfl rfl (Nat.le_of_ble_eq_true rfl)
theorem cK_X16_and_J16_append {G : Nat → Option Nat} {d pc : Nat} {ls : zLs} {rest : List zV} {h : zH} {r0 : Option Nat} {x1 : Int32} : zK2 (runF G) d mX16_and pc (zcallTo d mX16_and 298 [zr r0, zi x1] h ls rest) = if zsum rest ≤ 8 then (callF G d mJ16_append [zr r0, zi x1] h).bind (zback (runF G) d mX16_and pc ls rest) else none := zK_call2 (d' := d) rfl rfl (Nat.le_of_ble_eq_true rfl)
theorem cK_X16_value_X16_worked {G : Nat → Option Nat} {d pc : Nat} {ls : zLs} {rest : List zV} {h : zH} {x0 : Int32} {x1 : Int32} {x2 : Int32} : zK2 (runF G) d mX16_value pc (zcallTo d mX16_value 199 [zi x0, zi x1, zi x2] h ls rest) = if zsum rest ≤ 8 then (callF G d mX16_worked [zi x0, zi x1, zi x2] h).bind (zback (runF G) d mX16_value pc ls rest) else none := zK_call2 (d' := d) rfl rfl (Nat.le_of_ble_eq_true rfl)
theorem cK_X16_value_J2_size {G : Nat → Option Nat} {d pc : Nat} {ls : zLs} {rest : List zV} {h : zH} {r0 : Option Nat} : zK2 (runF G) d mX16_value pc (zcallTo d mX16_value 214 [zr r0] h ls rest) = if zsum rest ≤ 8 then (callF G d mJ2_size [zr r0] h).bind (zback (runF G) d mX16_value pc ls rest) else none := zK_call2 (d' := d) rfl rfl (Nat.le_of_ble_eq_true rfl)
theorem cK_X16_value_J2_get {G : Nat → Option Nat} {d pc : Nat} {ls : zLs} {rest : List zV} {h : zH} {r0 : Option Nat} {x1 : Int32} : zK2 (runF G) d mX16_value pc (zcallTo d mX16_value 219 [zr r0, zi x1] h ls rest) = if zsum rest ≤ 8 then (callF G d mJ2_get [zr r0, zi x1] h).bind (zback (runF G) d mX16_value pc ls rest) else none := zK_call2 (d' := d) rfl rfl (Nat.le_of_ble_eq_true rfl)
theorem cK_X16_value_J16_charAt {G : Nat → Option Nat} {d pc : Nat} {ls : zLs} {rest : List zV} {h : zH} {r0 : Option Nat} {x1 : Int32} : zK2 (runF G) d mX16_value pc (zcallTo d mX16_value 301 [zr r0, zi x1] h ls rest) = if zsum rest ≤ 8 then (callF G d mJ16_charAt [zr r0, zi x1] h).bind (zback (runF G) d mX16_value pc ls rest) else none := zK_call2 (d' := d) rfl rfl (Nat.le_of_ble_eq_true rfl)
theorem cK_X18_init_X17_init {G : Nat → Option Nat} {d pc : Nat} {ls : zLs} {rest : List zV} {h : zH} {r0 : Option Nat} {r1 : Option Nat} : zK2 (runF G) d mX18_init pc (zcallTo d mX18_init 200 [zr r0, zr r1] h ls rest) = if zsum rest ≤ 8 then (callF G d mX17_init [zr r0, zr r1] h).bind (zback (runF G) d mX18_init pc ls rest) else none := zK_call2 (d' := d) rfl rfl (Nat.le_of_ble_eq_true rfl)
theorem cK_X18_fails_X17_holds {G : Nat → Option Nat} {d pc : Nat} {ls : zLs} {rest : List zV} {h : zH} {r0 : Option Nat} {r1 : Option Nat} : zK2 (runF G) d mX18_fails pc (zcallTo d mX18_fails 201 [zr r0, zr r1] h ls rest) = if zsum rest ≤ 8 then (callF G d mX17_holds [zr r0, zr r1] h).bind (zback (runF G) d mX18_fails pc ls rest) else none := zK_call2 (d' := d) rfl rfl (Nat.le_of_ble_eq_true rfl)
theorem cK_X19_init_X17_init {G : Nat → Option Nat} {d pc : Nat} {ls : zLs} {rest : List zV} {h : zH} {r0 : Option Nat} {r1 : Option Nat} : zK2 (runF G) d mX19_init pc (zcallTo d mX19_init 200 [zr r0, zr r1] h ls rest) = if zsum rest ≤ 8 then (callF G d mX17_init [zr r0, zr r1] h).bind (zback (runF G) d mX19_init pc ls rest) else none := zK_call2 (d' := d) rfl rfl (Nat.le_of_ble_eq_true rfl)
theorem cK_X20_init_X17_init {G : Nat → Option Nat} {d pc : Nat} {ls : zLs} {rest : List zV} {h : zH} {r0 : Option Nat} {r1 : Option Nat} : zK2 (runF G) d mX20_init pc (zcallTo d mX20_init 200 [zr r0, zr r1] h ls rest) = if zsum rest ≤ 8 then (callF G d mX17_init [zr r0, zr r1] h).bind (zback (runF G) d mX20_init pc ls rest) else none := zK_call2 (d' := d) rfl rfl (Nat.le_of_ble_eq_true rfl)
theorem cK_J1_init_J0_init {G : Nat → Option Nat} {d pc : Nat} {ls : zLs} {rest : List zV} {h : zH} {r0 : Option Nat} : zK2 (runF G) d mJ1_init pc (zcallTo d mJ1_init 211 [zr r0] h ls rest) = if zsum rest ≤ 8 then (callF G d mJ0_init [zr r0] h).bind (zback (runF G) d mJ1_init pc ls rest) else none := zK_call2 (d' := d) rfl rfl (Nat.le_of_ble_eq_true rfl)
theorem cK_J2_init_J1_init {G : Nat → Option Nat} {d pc : Nat} {ls : zLs} {rest : List zV} {h : zH} {r0 : Option Nat} : zK2 (runF G) d mJ2_init pc (zcallTo d mJ2_init 212 [zr r0] h ls rest) = if zsum rest ≤ 8 then (callF G d mJ1_init [zr r0] h).bind (zback (runF G) d mJ2_init pc ls rest) else none := zK_call2 (d' := d) rfl rfl (Nat.le_of_ble_eq_true rfl)
theorem cK_J2_add_J2_add_2 {G : Nat → Option Nat} {d pc : Nat} {ls : zLs} {rest : List zV} {h : zH} {r0 : Option Nat} {r1 : Option Nat} {r2 : Option Nat} {x3 : Int32} : zK2 (runF G) d mJ2_add pc (zcallTo d mJ2_add 216 [zr r0, zr r1, zr r2, zi x3] h ls rest) = if zsum rest ≤ 8 then (callF G d mJ2_add_2 [zr r0, zr r1, zr r2, zi x3] h).bind (zback (runF G) d mJ2_add pc ls rest) else none := zK_call2 (d' := d) rfl rfl (Nat.le_of_ble_eq_true rfl)
theorem cK_J2_add_2_J2_grow {G : Nat → Option Nat} {d pc : Nat} {ls : zLs} {rest : List zV} {h : zH} {r0 : Option Nat} : zK2 (runF G) d mJ2_add_2 pc (zcallTo d mJ2_add_2 217 [zr r0] h ls rest) = if zsum rest ≤ 8 then (callF G d mJ2_grow [zr r0] h).bind (zback (runF G) d mJ2_add_2 pc ls rest) else none := zK_call2 (d' := d) rfl rfl (Nat.le_of_ble_eq_true rfl)
theorem cK_J2_grow_J2_grow_2 {G : Nat → Option Nat} {d pc : Nat} {ls : zLs} {rest : List zV} {h : zH} {r0 : Option Nat} {x1 : Int32} : zK2 (runF G) d mJ2_grow pc (zcallTo d mJ2_grow 218 [zr r0, zi x1] h ls rest) = if zsum rest ≤ 8 then (callF G d mJ2_grow_2 [zr r0, zi x1] h).bind (zback (runF G) d mJ2_grow pc ls rest) else none := zK_call2 (d' := d) rfl rfl (Nat.le_of_ble_eq_true rfl)
theorem cK_J2_grow_2_J3_newLength {G : Nat → Option Nat} {d pc : Nat} {ls : zLs} {rest : List zV} {h : zH} {x0 : Int32} {x1 : Int32} {x2 : Int32} : zK2 (runF G) d mJ2_grow_2 pc (zcallTo d mJ2_grow_2 227 [zi x0, zi x1, zi x2] h ls rest) = if zsum rest ≤ 8 then (callF G d mJ3_newLength [zi x0, zi x1, zi x2] h).bind (zback (runF G) d mJ2_grow_2 pc ls rest) else none := zK_call2 (d' := d) rfl rfl (Nat.le_of_ble_eq_true rfl)
theorem cK_J2_grow_2_J4_max {G : Nat → Option Nat} {d pc : Nat} {ls : zLs} {rest : List zV} {h : zH} {x0 : Int32} {x1 : Int32} : zK2 (runF G) d mJ2_grow_2 pc (zcallTo d mJ2_grow_2 229 [zi x0, zi x1] h ls rest) = if zsum rest ≤ 8 then (callF G d mJ4_max [zi x0, zi x1] h).bind (zback (runF G) d mJ2_grow_2 pc ls rest) else none := zK_call2 (d' := d) rfl rfl (Nat.le_of_ble_eq_true rfl)
theorem cK_J2_grow_2_J5_copyOf {G : Nat → Option Nat} {d pc : Nat} {ls : zLs} {rest : List zV} {h : zH} {r0 : Option Nat} {x1 : Int32} : zK2 (runF G) d mJ2_grow_2 pc (zcallTo d mJ2_grow_2 232 [zr r0, zi x1] h ls rest) = if zsum rest ≤ 8 then (callF G d mJ5_copyOf [zr r0, zi x1] h).bind (zback (runF G) d mJ2_grow_2 pc ls rest) else none := zK_call2 (d' := d) rfl rfl (Nat.le_of_ble_eq_true rfl)
theorem cK_J2_get_J2_elementData {G : Nat → Option Nat} {d pc : Nat} {ls : zLs} {rest : List zV} {h : zH} {r0 : Option Nat} {x1 : Int32} : zK2 (runF G) d mJ2_get pc (zcallTo d mJ2_get 220 [zr r0, zi x1] h ls rest) = if zsum rest ≤ 8 then (callF G d mJ2_elementData [zr r0, zi x1] h).bind (zback (runF G) d mJ2_get pc ls rest) else none := zK_call2 (d' := d) rfl rfl (Nat.le_of_ble_eq_true rfl)
theorem cK_J2_get_J6_checkIndex {G : Nat → Option Nat} {d pc : Nat} {ls : zLs} {rest : List zV} {h : zH} {x0 : Int32} {x1 : Int32} : zK2 (runF G) d mJ2_get pc (zcallTo d mJ2_get 238 [zi x0, zi x1] h ls rest) = if zsum rest ≤ 8 then (callF G d mJ6_checkIndex [zi x0, zi x1] h).bind (zback (runF G) d mJ2_get pc ls rest) else none := zK_call2 (d' := d) rfl rfl (Nat.le_of_ble_eq_true rfl)
theorem cK_J2_contains_J2_indexOf {G : Nat → Option Nat} {d pc : Nat} {ls : zLs} {rest : List zV} {h : zH} {r0 : Option Nat} {r1 : Option Nat} : zK2 (runF G) d mJ2_contains pc (zcallTo d mJ2_contains 222 [zr r0, zr r1] h ls rest) = if zsum rest ≤ 8 then (callF G d mJ2_indexOf [zr r0, zr r1] h).bind (zback (runF G) d mJ2_contains pc ls rest) else none := zK_call2 (d' := d) rfl rfl (Nat.le_of_ble_eq_true rfl)
theorem cK_J2_indexOf_J2_indexOfRange {G : Nat → Option Nat} {d pc : Nat} {ls : zLs} {rest : List zV} {h : zH} {r0 : Option Nat} {r1 : Option Nat} {x2 : Int32} {x3 : Int32} : zK2 (runF G) d mJ2_indexOf pc (zcallTo d mJ2_indexOf 223 [zr r0, zr r1, zi x2, zi x3] h ls rest) = if zsum rest ≤ 8 then (callF G d mJ2_indexOfRange [zr r0, zr r1, zi x2, zi x3] h).bind (zback (runF G) d mJ2_indexOf pc ls rest) else none := zK_call2 (d' := d) rfl rfl (Nat.le_of_ble_eq_true rfl)
theorem cK_J2_add_3_J2_grow {G : Nat → Option Nat} {d pc : Nat} {ls : zLs} {rest : List zV} {h : zH} {r0 : Option Nat} : zK2 (runF G) d mJ2_add_3 pc (zcallTo d mJ2_add_3 217 [zr r0] h ls rest) = if zsum rest ≤ 8 then (callF G d mJ2_grow [zr r0] h).bind (zback (runF G) d mJ2_add_3 pc ls rest) else none := zK_call2 (d' := d) rfl rfl (Nat.le_of_ble_eq_true rfl)
theorem cK_J2_add_3_J2_rangeCheckForAdd {G : Nat → Option Nat} {d pc : Nat} {ls : zLs} {rest : List zV} {h : zH} {r0 : Option Nat} {x1 : Int32} : zK2 (runF G) d mJ2_add_3 pc (zcallTo d mJ2_add_3 226 [zr r0, zi x1] h ls rest) = if zsum rest ≤ 8 then (callF G d mJ2_rangeCheckForAdd [zr r0, zi x1] h).bind (zback (runF G) d mJ2_add_3 pc ls rest) else none := zK_call2 (d' := d) rfl rfl (Nat.le_of_ble_eq_true rfl)
theorem cK_J3_newLength_J3_hugeLength {G : Nat → Option Nat} {d pc : Nat} {ls : zLs} {rest : List zV} {h : zH} {x0 : Int32} {x1 : Int32} : zK2 (runF G) d mJ3_newLength pc (zcallTo d mJ3_newLength 228 [zi x0, zi x1] h ls rest) = if zsum rest ≤ 8 then (callF G d mJ3_hugeLength [zi x0, zi x1] h).bind (zback (runF G) d mJ3_newLength pc ls rest) else none := zK_call2 (d' := d) rfl rfl (Nat.le_of_ble_eq_true rfl)
theorem cK_J3_newLength_J4_max {G : Nat → Option Nat} {d pc : Nat} {ls : zLs} {rest : List zV} {h : zH} {x0 : Int32} {x1 : Int32} : zK2 (runF G) d mJ3_newLength pc (zcallTo d mJ3_newLength 229 [zi x0, zi x1] h ls rest) = if zsum rest ≤ 8 then (callF G d mJ4_max [zi x0, zi x1] h).bind (zback (runF G) d mJ3_newLength pc ls rest) else none := zK_call2 (d' := d) rfl rfl (Nat.le_of_ble_eq_true rfl)
theorem cK_J5_copyOf_J5_copyOf_2 {G : Nat → Option Nat} {d pc : Nat} {ls : zLs} {rest : List zV} {h : zH} {r0 : Option Nat} {x1 : Int32} {r2 : Option Nat} : zK2 (runF G) d mJ5_copyOf pc (zcallTo d mJ5_copyOf 233 [zr r0, zi x1, zr r2] h ls rest) = if zsum rest ≤ 8 then (callF G d mJ5_copyOf_2 [zr r0, zi x1, zr r2] h).bind (zback (runF G) d mJ5_copyOf pc ls rest) else none := zK_call2 (d' := d) rfl rfl (Nat.le_of_ble_eq_true rfl)
theorem cK_J5_copyOf_2_J4_min {G : Nat → Option Nat} {d pc : Nat} {ls : zLs} {rest : List zV} {h : zH} {x0 : Int32} {x1 : Int32} : zK2 (runF G) d mJ5_copyOf_2 pc (zcallTo d mJ5_copyOf_2 230 [zi x0, zi x1] h ls rest) = if zsum rest ≤ 8 then (callF G d mJ4_min [zi x0, zi x1] h).bind (zback (runF G) d mJ5_copyOf_2 pc ls rest) else none := zK_call2 (d' := d) rfl rfl (Nat.le_of_ble_eq_true rfl)
theorem cK_J5_copyOf_3_J4_min {G : Nat → Option Nat} {d pc : Nat} {ls : zLs} {rest : List zV} {h : zH} {x0 : Int32} {x1 : Int32} : zK2 (runF G) d mJ5_copyOf_3 pc (zcallTo d mJ5_copyOf_3 230 [zi x0, zi x1] h ls rest) = if zsum rest ≤ 8 then (callF G d mJ4_min [zi x0, zi x1] h).bind (zback (runF G) d mJ5_copyOf_3 pc ls rest) else none := zK_call2 (d' := d) rfl rfl (Nat.le_of_ble_eq_true rfl)
theorem cK_J5_copyOfRange_J5_copyOfRangeByte {G : Nat → Option Nat} {d pc : Nat} {ls : zLs} {rest : List zV} {h : zH} {r0 : Option Nat} {x1 : Int32} {x2 : Int32} : zK2 (runF G) d mJ5_copyOfRange pc (zcallTo d mJ5_copyOfRange 236 [zr r0, zi x1, zi x2] h ls rest) = if zsum rest ≤ 8 then (callF G d mJ5_copyOfRangeByte [zr r0, zi x1, zi x2] h).bind (zback (runF G) d mJ5_copyOfRange pc ls rest) else none := zK_call2 (d' := d) rfl rfl (Nat.le_of_ble_eq_true rfl)
theorem cK_J5_copyOfRangeByte_J4_min {G : Nat → Option Nat} {d pc : Nat} {ls : zLs} {rest : List zV} {h : zH} {x0 : Int32} {x1 : Int32} : zK2 (runF G) d mJ5_copyOfRangeByte pc (zcallTo d mJ5_copyOfRangeByte 230 [zi x0, zi x1] h ls rest) = if zsum rest ≤ 8 then (callF G d mJ4_min [zi x0, zi x1] h).bind (zback (runF G) d mJ5_copyOfRangeByte pc ls rest) else none := zK_call2 (d' := d) rfl rfl (Nat.le_of_ble_eq_true rfl)
theorem cK_J5_copyOfRangeByte_J5_checkLength {G : Nat → Option Nat} {d pc : Nat} {ls : zLs} {rest : List zV} {h : zH} {x0 : Int32} {x1 : Int32} : zK2 (runF G) d mJ5_copyOfRangeByte pc (zcallTo d mJ5_copyOfRangeByte 237 [zi x0, zi x1] h ls rest) = if zsum rest ≤ 8 then (callF G d mJ5_checkLength [zi x0, zi x1] h).bind (zback (runF G) d mJ5_copyOfRangeByte pc ls rest) else none := zK_call2 (d' := d) rfl rfl (Nat.le_of_ble_eq_true rfl)
theorem cK_J6_checkIndex_J7_checkIndex {G : Nat → Option Nat} {d pc : Nat} {ls : zLs} {rest : List zV} {h : zH} {x0 : Int32} {x1 : Int32} {r2 : Option Nat} : zK2 (runF G) d mJ6_checkIndex pc (zcallTo d mJ6_checkIndex 239 [zi x0, zi x1, zr r2] h ls rest) = if zsum rest ≤ 8 then (callF G d mJ7_checkIndex [zi x0, zi x1, zr r2] h).bind (zback (runF G) d mJ6_checkIndex pc ls rest) else none := zK_call2 (d' := d) rfl rfl (Nat.le_of_ble_eq_true rfl)
theorem cK_J8_indexOf_J8_indexOf_2 {G : Nat → Option Nat} {d pc : Nat} {ls : zLs} {rest : List zV} {h : zH} {r0 : Option Nat} {x1 : Int32} {x2 : Int32} : zK2 (runF G) d mJ8_indexOf pc (zcallTo d mJ8_indexOf 243 [zr r0, zi x1, zi x2] h ls rest) = if zsum rest ≤ 8 then (callF G d mJ8_indexOf_2 [zr r0, zi x1, zi x2] h).bind (zback (runF G) d mJ8_indexOf pc ls rest) else none := zK_call2 (d' := d) rfl rfl (Nat.le_of_ble_eq_true rfl)
theorem cK_J8_indexOf_2_J8_isLatin1 {G : Nat → Option Nat} {d pc : Nat} {ls : zLs} {rest : List zV} {h : zH} {r0 : Option Nat} : zK2 (runF G) d mJ8_indexOf_2 pc (zcallTo d mJ8_indexOf_2 244 [zr r0] h ls rest) = if zsum rest ≤ 8 then (callF G d mJ8_isLatin1 [zr r0] h).bind (zback (runF G) d mJ8_indexOf_2 pc ls rest) else none := zK_call2 (d' := d) rfl rfl (Nat.le_of_ble_eq_true rfl)
theorem cK_J8_indexOf_2_J8_length {G : Nat → Option Nat} {d pc : Nat} {ls : zLs} {rest : List zV} {h : zH} {r0 : Option Nat} : zK2 (runF G) d mJ8_indexOf_2 pc (zcallTo d mJ8_indexOf_2 245 [zr r0] h ls rest) = if zsum rest ≤ 8 then (callF G d mJ8_length [zr r0] h).bind (zback (runF G) d mJ8_indexOf_2 pc ls rest) else none := zK_call2 (d' := d) rfl rfl (Nat.le_of_ble_eq_true rfl)
theorem cK_J8_indexOf_2_J9_indexOf {G : Nat → Option Nat} {d pc : Nat} {ls : zLs} {rest : List zV} {h : zH} {r0 : Option Nat} {x1 : Int32} {x2 : Int32} {x3 : Int32} : zK2 (runF G) d mJ8_indexOf_2 pc (zcallTo d mJ8_indexOf_2 254 [zr r0, zi x1, zi x2, zi x3] h ls rest) = if zsum rest ≤ 8 then (callF G d mJ9_indexOf [zr r0, zi x1, zi x2, zi x3] h).bind (zback (runF G) d mJ8_indexOf_2 pc ls rest) else none := zK_call2 (d' := d) rfl rfl (Nat.le_of_ble_eq_true rfl)
theorem cK_J8_indexOf_2_J10_indexOf {G : Nat → Option Nat} {d pc : Nat} {ls : zLs} {rest : List zV} {h : zH} {r0 : Option Nat} {x1 : Int32} {x2 : Int32} {x3 : Int32} : zK2 (runF G) d mJ8_indexOf_2 pc (zcallTo d mJ8_indexOf_2 261 [zr r0, zi x1, zi x2, zi x3] h ls rest) = if zsum rest ≤ 8 then (callF G d mJ10_indexOf [zr r0, zi x1, zi x2, zi x3] h).bind (zback (runF G) d mJ8_indexOf_2 pc ls rest) else none := zK_call2 (d' := d) rfl rfl (Nat.le_of_ble_eq_true rfl)
theorem cK_J8_length_J8_coder {G : Nat → Option Nat} {d pc : Nat} {ls : zLs} {rest : List zV} {h : zH} {r0 : Option Nat} : zK2 (runF G) d mJ8_length pc (zcallTo d mJ8_length 246 [zr r0] h ls rest) = if zsum rest ≤ 8 then (callF G d mJ8_coder [zr r0] h).bind (zback (runF G) d mJ8_length pc ls rest) else none := zK_call2 (d' := d) rfl rfl (Nat.le_of_ble_eq_true rfl)
theorem cK_J8_checkBoundsBeginEnd_J7_checkFromToIndex {G : Nat → Option Nat} {d pc : Nat} {ls : zLs} {rest : List zV} {h : zH} {x0 : Int32} {x1 : Int32} {x2 : Int32} {r3 : Option Nat} : zK2 (runF G) d mJ8_checkBoundsBeginEnd pc (zcallTo d mJ8_checkBoundsBeginEnd 240 [zi x0, zi x1, zi x2, zr r3] h ls rest) = if zsum rest ≤ 8 then (callF G d mJ7_checkFromToIndex [zi x0, zi x1, zi x2, zr r3] h).bind (zback (runF G) d mJ8_checkBoundsBeginEnd pc ls rest) else none := zK_call2 (d' := d) rfl rfl (Nat.le_of_ble_eq_true rfl)
theorem cK_J8_charAt_J8_isLatin1 {G : Nat → Option Nat} {d pc : Nat} {ls : zLs} {rest : List zV} {h : zH} {r0 : Option Nat} : zK2 (runF G) d mJ8_charAt pc (zcallTo d mJ8_charAt 244 [zr r0] h ls rest) = if zsum rest ≤ 8 then (callF G d mJ8_isLatin1 [zr r0] h).bind (zback (runF G) d mJ8_charAt pc ls rest) else none := zK_call2 (d' := d) rfl rfl (Nat.le_of_ble_eq_true rfl)
theorem cK_J8_charAt_J9_charAt {G : Nat → Option Nat} {d pc : Nat} {ls : zLs} {rest : List zV} {h : zH} {r0 : Option Nat} {x1 : Int32} : zK2 (runF G) d mJ8_charAt pc (zcallTo d mJ8_charAt 257 [zr r0, zi x1] h ls rest) = if zsum rest ≤ 8 then (callF G d mJ9_charAt [zr r0, zi x1] h).bind (zback (runF G) d mJ8_charAt pc ls rest) else none := zK_call2 (d' := d) rfl rfl (Nat.le_of_ble_eq_true rfl)
theorem cK_J8_charAt_J10_charAt {G : Nat → Option Nat} {d pc : Nat} {ls : zLs} {rest : List zV} {h : zH} {r0 : Option Nat} {x1 : Int32} : zK2 (runF G) d mJ8_charAt pc (zcallTo d mJ8_charAt 268 [zr r0, zi x1] h ls rest) = if zsum rest ≤ 8 then (callF G d mJ10_charAt [zr r0, zi x1] h).bind (zback (runF G) d mJ8_charAt pc ls rest) else none := zK_call2 (d' := d) rfl rfl (Nat.le_of_ble_eq_true rfl)
theorem cK_J8_checkIndex_J7_checkIndex {G : Nat → Option Nat} {d pc : Nat} {ls : zLs} {rest : List zV} {h : zH} {x0 : Int32} {x1 : Int32} {r2 : Option Nat} : zK2 (runF G) d mJ8_checkIndex pc (zcallTo d mJ8_checkIndex 239 [zi x0, zi x1, zr r2] h ls rest) = if zsum rest ≤ 8 then (callF G d mJ7_checkIndex [zi x0, zi x1, zr r2] h).bind (zback (runF G) d mJ8_checkIndex pc ls rest) else none := zK_call2 (d' := d) rfl rfl (Nat.le_of_ble_eq_true rfl)
theorem cK_J8_checkBoundsOffCount_J7_checkFromIndexSize {G : Nat → Option Nat} {d pc : Nat} {ls : zLs} {rest : List zV} {h : zH} {x0 : Int32} {x1 : Int32} {x2 : Int32} {r3 : Option Nat} : zK2 (runF G) d mJ8_checkBoundsOffCount pc (zcallTo d mJ8_checkBoundsOffCount 241 [zi x0, zi x1, zi x2, zr r3] h ls rest) = if zsum rest ≤ 8 then (callF G d mJ7_checkFromIndexSize [zi x0, zi x1, zi x2, zr r3] h).bind (zback (runF G) d mJ8_checkBoundsOffCount pc ls rest) else none := zK_call2 (d' := d) rfl rfl (Nat.le_of_ble_eq_true rfl)
theorem cK_J8_init_J8_init_2 {G : Nat → Option Nat} {d pc : Nat} {ls : zLs} {rest : List zV} {h : zH} {r0 : Option Nat} {r1 : Option Nat} {r2 : Option Nat} : zK2 (runF G) d mJ8_init pc (zcallTo d mJ8_init 252 [zr r0, zr r1, zr r2] h ls rest) = if zsum rest ≤ 8 then (callF G d mJ8_init_2 [zr r0, zr r1, zr r2] h).bind (zback (runF G) d mJ8_init pc ls rest) else none := zK_call2 (d' := d) rfl rfl (Nat.le_of_ble_eq_true rfl)
theorem cK_J8_init_2_J5_copyOfRange {G : Nat → Option Nat} {d pc : Nat} {ls : zLs} {rest : List zV} {h : zH} {r0 : Option Nat} {x1 : Int32} {x2 : Int32} : zK2 (runF G) d mJ8_init_2 pc (zcallTo d mJ8_init_2 235 [zr r0, zi x1, zi x2] h ls rest) = if zsum rest ≤ 8 then (callF G d mJ5_copyOfRange [zr r0, zi x1, zi x2] h).bind (zback (runF G) d mJ8_init_2 pc ls rest) else none := zK_call2 (d' := d) rfl rfl (Nat.le_of_ble_eq_true rfl)
theorem cK_J8_init_2_J10_compress {G : Nat → Option Nat} {d pc : Nat} {ls : zLs} {rest : List zV} {h : zH} {r0 : Option Nat} {x1 : Int32} {x2 : Int32} : zK2 (runF G) d mJ8_init_2 pc (zcallTo d mJ8_init_2 276 [zr r0, zi x1, zi x2] h ls rest) = if zsum rest ≤ 8 then (callF G d mJ10_compress [zr r0, zi x1, zi x2] h).bind (zback (runF G) d mJ8_init_2 pc ls rest) else none := zK_call2 (d' := d) rfl rfl (Nat.le_of_ble_eq_true rfl)
theorem cK_J8_init_2_J10_coderFromArrayLen {G : Nat → Option Nat} {d pc : Nat} {ls : zLs} {rest : List zV} {h : zH} {r0 : Option Nat} {x1 : Int32} : zK2 (runF G) d mJ8_init_2 pc (zcallTo d mJ8_init_2 278 [zr r0, zi x1] h ls rest) = if zsum rest ≤ 8 then (callF G d mJ10_coderFromArrayLen [zr r0, zi x1] h).bind (zback (runF G) d mJ8_init_2 pc ls rest) else none := zK_call2 (d' := d) rfl rfl (Nat.le_of_ble_eq_true rfl)
theorem cK_J8_init_2_J15_isLatin1 {G : Nat → Option Nat} {d pc : Nat} {ls : zLs} {rest : List zV} {h : zH} {r0 : Option Nat} : zK2 (runF G) d mJ8_init_2 pc (zcallTo d mJ8_init_2 292 [zr r0] h ls rest) = if zsum rest ≤ 8 then (callF G d mJ15_isLatin1 [zr r0] h).bind (zback (runF G) d mJ8_init_2 pc ls rest) else none := zK_call2 (d' := d) rfl rfl (Nat.le_of_ble_eq_true rfl)
theorem cK_J8_init_2_J15_getValue {G : Nat → Option Nat} {d pc : Nat} {ls : zLs} {rest : List zV} {h : zH} {r0 : Option Nat} : zK2 (runF G) d mJ8_init_2 pc (zcallTo d mJ8_init_2 294 [zr r0] h ls rest) = if zsum rest ≤ 8 then (callF G d mJ15_getValue [zr r0] h).bind (zback (runF G) d mJ8_init_2 pc ls rest) else none := zK_call2 (d' := d) rfl rfl (Nat.le_of_ble_eq_true rfl)
theorem cK_J8_init_2_J16_length {G : Nat → Option Nat} {d pc : Nat} {ls : zLs} {rest : List zV} {h : zH} {r0 : Option Nat} : zK2 (runF G) d mJ8_init_2 pc (zcallTo d mJ8_init_2 300 [zr r0] h ls rest) = if zsum rest ≤ 8 then (callF G d mJ16_length [zr r0] h).bind (zback (runF G) d mJ8_init_2 pc ls rest) else none := zK_call2 (d' := d) rfl rfl (Nat.le_of_ble_eq_true rfl)
theorem cK_J8_equals_J9_equals {G : Nat → Option Nat} {d pc : Nat} {ls : zLs} {rest : List zV} {h : zH} {r0 : Option Nat} {r1 : Option Nat} : zK2 (runF G) d mJ8_equals pc (zcallTo d mJ8_equals 260 [zr r0, zr r1] h ls rest) = if zsum rest ≤ 8 then (callF G d mJ9_equals [zr r0, zr r1] h).bind (zback (runF G) d mJ8_equals pc ls rest) else none := zK_call2 (d' := d) rfl rfl (Nat.le_of_ble_eq_true rfl)
theorem cK_J9_indexOf_J4_max {G : Nat → Option Nat} {d pc : Nat} {ls : zLs} {rest : List zV} {h : zH} {x0 : Int32} {x1 : Int32} : zK2 (runF G) d mJ9_indexOf pc (zcallTo d mJ9_indexOf 229 [zi x0, zi x1] h ls rest) = if zsum rest ≤ 8 then (callF G d mJ4_max [zi x0, zi x1] h).bind (zback (runF G) d mJ9_indexOf pc ls rest) else none := zK_call2 (d' := d) rfl rfl (Nat.le_of_ble_eq_true rfl)
theorem cK_J9_indexOf_J4_min {G : Nat → Option Nat} {d pc : Nat} {ls : zLs} {rest : List zV} {h : zH} {x0 : Int32} {x1 : Int32} : zK2 (runF G) d mJ9_indexOf pc (zcallTo d mJ9_indexOf 230 [zi x0, zi x1] h ls rest) = if zsum rest ≤ 8 then (callF G d mJ4_min [zi x0, zi x1] h).bind (zback (runF G) d mJ9_indexOf pc ls rest) else none := zK_call2 (d' := d) rfl rfl (Nat.le_of_ble_eq_true rfl)
theorem cK_J9_indexOf_J9_canEncode {G : Nat → Option Nat} {d pc : Nat} {ls : zLs} {rest : List zV} {h : zH} {x0 : Int32} : zK2 (runF G) d mJ9_indexOf pc (zcallTo d mJ9_indexOf 255 [zi x0] h ls rest) = if zsum rest ≤ 8 then (callF G d mJ9_canEncode [zi x0] h).bind (zback (runF G) d mJ9_indexOf pc ls rest) else none := zK_call2 (d' := d) rfl rfl (Nat.le_of_ble_eq_true rfl)
theorem cK_J9_indexOf_J9_indexOfChar {G : Nat → Option Nat} {d pc : Nat} {ls : zLs} {rest : List zV} {h : zH} {r0 : Option Nat} {x1 : Int32} {x2 : Int32} {x3 : Int32} : zK2 (runF G) d mJ9_indexOf pc (zcallTo d mJ9_indexOf 256 [zr r0, zi x1, zi x2, zi x3] h ls rest) = if zsum rest ≤ 8 then (callF G d mJ9_indexOfChar [zr r0, zi x1, zi x2, zi x3] h).bind (zback (runF G) d mJ9_indexOf pc ls rest) else none := zK_call2 (d' := d) rfl rfl (Nat.le_of_ble_eq_true rfl)
theorem cK_J9_charAt_J8_checkIndex {G : Nat → Option Nat} {d pc : Nat} {ls : zLs} {rest : List zV} {h : zH} {x0 : Int32} {x1 : Int32} : zK2 (runF G) d mJ9_charAt pc (zcallTo d mJ9_charAt 249 [zi x0, zi x1] h ls rest) = if zsum rest ≤ 8 then (callF G d mJ8_checkIndex [zi x0, zi x1] h).bind (zback (runF G) d mJ9_charAt pc ls rest) else none := zK_call2 (d' := d) rfl rfl (Nat.le_of_ble_eq_true rfl)
theorem cK_J9_inflate_J10_inflate {G : Nat → Option Nat} {d pc : Nat} {ls : zLs} {rest : List zV} {h : zH} {r0 : Option Nat} {x1 : Int32} {r2 : Option Nat} {x3 : Int32} {x4 : Int32} : zK2 (runF G) d mJ9_inflate pc (zcallTo d mJ9_inflate 272 [zr r0, zi x1, zr r2, zi x3, zi x4] h ls rest) = if zsum rest ≤ 8 then (callF G d mJ10_inflate [zr r0, zi x1, zr r2, zi x3, zi x4] h).bind (zback (runF G) d mJ9_inflate pc ls rest) else none := zK_call2 (d' := d) rfl rfl (Nat.le_of_ble_eq_true rfl)
theorem cK_J13_init_J12_init_2 {G : Nat → Option Nat} {d pc : Nat} {ls : zLs} {rest : List zV} {h : zH} {r0 : Option Nat} {r1 : Option Nat} {r2 : Option Nat} {x3 : Int32} {x4 : Int32} : zK2 (runF G) d mJ13_init pc (zcallTo d mJ13_init 283 [zr r0, zr r1, zr r2, zi x3, zi x4] h ls rest) = if zsum rest ≤ 8 then (callF G d mJ12_init_2 [zr r0, zr r1, zr r2, zi x3, zi x4] h).bind (zback (runF G) d mJ13_init pc ls rest) else none := zK_call2 (d' := d) rfl rfl (Nat.le_of_ble_eq_true rfl)
theorem cK_J13_init_2_J12_init {G : Nat → Option Nat} {d pc : Nat} {ls : zLs} {rest : List zV} {h : zH} {r0 : Option Nat} : zK2 (runF G) d mJ13_init_2 pc (zcallTo d mJ13_init_2 282 [zr r0] h ls rest) = if zsum rest ≤ 8 then (callF G d mJ12_init [zr r0] h).bind (zback (runF G) d mJ13_init_2 pc ls rest) else none := zK_call2 (d' := d) rfl rfl (Nat.le_of_ble_eq_true rfl)
theorem cK_J14_init_J13_init {G : Nat → Option Nat} {d pc : Nat} {ls : zLs} {rest : List zV} {h : zH} {r0 : Option Nat} {r1 : Option Nat} {r2 : Option Nat} {x3 : Int32} {x4 : Int32} : zK2 (runF G) d mJ14_init pc (zcallTo d mJ14_init 284 [zr r0, zr r1, zr r2, zi x3, zi x4] h ls rest) = if zsum rest ≤ 8 then (callF G d mJ13_init [zr r0, zr r1, zr r2, zi x3, zi x4] h).bind (zback (runF G) d mJ14_init pc ls rest) else none := zK_call2 (d' := d) rfl rfl (Nat.le_of_ble_eq_true rfl)
theorem cK_J14_init_2_J13_init_2 {G : Nat → Option Nat} {d pc : Nat} {ls : zLs} {rest : List zV} {h : zH} {r0 : Option Nat} : zK2 (runF G) d mJ14_init_2 pc (zcallTo d mJ14_init_2 285 [zr r0] h ls rest) = if zsum rest ≤ 8 then (callF G d mJ13_init_2 [zr r0] h).bind (zback (runF G) d mJ14_init_2 pc ls rest) else none := zK_call2 (d' := d) rfl rfl (Nat.le_of_ble_eq_true rfl)
theorem cK_J15_init_J10_newBytesFor {G : Nat → Option Nat} {d pc : Nat} {ls : zLs} {rest : List zV} {h : zH} {x0 : Int32} : zK2 (runF G) d mJ15_init pc (zcallTo d mJ15_init 270 [zi x0] h ls rest) = if zsum rest ≤ 8 then (callF G d mJ10_newBytesFor [zi x0] h).bind (zback (runF G) d mJ15_init pc ls rest) else none := zK_call2 (d' := d) rfl rfl (Nat.le_of_ble_eq_true rfl)
theorem cK_J15_append_J9_canEncode_2 {G : Nat → Option Nat} {d pc : Nat} {ls : zLs} {rest : List zV} {h : zH} {x0 : Int32} : zK2 (runF G) d mJ15_append pc (zcallTo d mJ15_append 258 [zi x0] h ls rest) = if zsum rest ≤ 8 then (callF G d mJ9_canEncode_2 [zi x0] h).bind (zback (runF G) d mJ15_append pc ls rest) else none := zK_call2 (d' := d) rfl rfl (Nat.le_of_ble_eq_true rfl)
theorem cK_J15_append_J10_putCharSB {G : Nat → Option Nat} {d pc : Nat} {ls : zLs} {rest : List zV} {h : zH} {r0 : Option Nat} {x1 : Int32} {x2 : Int32} : zK2 (runF G) d mJ15_append pc (zcallTo d mJ15_append 275 [zr r0, zi x1, zi x2] h ls rest) = if zsum rest ≤ 8 then (callF G d mJ10_putCharSB [zr r0, zi x1, zi x2] h).bind (zback (runF G) d mJ15_append pc ls rest) else none := zK_call2 (d' := d) rfl rfl (Nat.le_of_ble_eq_true rfl)
theorem cK_J15_append_J15_ensureCapacityInternal {G : Nat → Option Nat} {d pc : Nat} {ls : zLs} {rest : List zV} {h : zH} {r0 : Option Nat} {x1 : Int32} : zK2 (runF G) d mJ15_append pc (zcallTo d mJ15_append 290 [zr r0, zi x1] h ls rest) = if zsum rest ≤ 8 then (callF G d mJ15_ensureCapacityInternal [zr r0, zi x1] h).bind (zback (runF G) d mJ15_append pc ls rest) else none := zK_call2 (d' := d) rfl rfl (Nat.le_of_ble_eq_true rfl)
theorem cK_J15_append_J15_isLatin1 {G : Nat → Option Nat} {d pc : Nat} {ls : zLs} {rest : List zV} {h : zH} {r0 : Option Nat} : zK2 (runF G) d mJ15_append pc (zcallTo d mJ15_append 292 [zr r0] h ls rest) = if zsum rest ≤ 8 then (callF G d mJ15_isLatin1 [zr r0] h).bind (zback (runF G) d mJ15_append pc ls rest) else none := zK_call2 (d' := d) rfl rfl (Nat.le_of_ble_eq_true rfl)
theorem cK_J15_append_J15_inflate {G : Nat → Option Nat} {d pc : Nat} {ls : zLs} {rest : List zV} {h : zH} {r0 : Option Nat} : zK2 (runF G) d mJ15_append pc (zcallTo d mJ15_append 293 [zr r0] h ls rest) = if zsum rest ≤ 8 then (callF G d mJ15_inflate [zr r0] h).bind (zback (runF G) d mJ15_append pc ls rest) else none := zK_call2 (d' := d) rfl rfl (Nat.le_of_ble_eq_true rfl)
theorem cK_J15_ensureCapacityInternal_J5_copyOf_3 {G : Nat → Option Nat} {d pc : Nat} {ls : zLs} {rest : List zV} {h : zH} {r0 : Option Nat} {x1 : Int32} : zK2 (runF G) d mJ15_ensureCapacityInternal pc (zcallTo d mJ15_ensureCapacityInternal 234 [zr r0, zi x1] h ls rest) = if zsum rest ≤ 8 then (callF G d mJ5_copyOf_3 [zr r0, zi x1] h).bind (zback (runF G) d mJ15_ensureCapacityInternal pc ls rest) else none := zK_call2 (d' := d) rfl rfl (Nat.le_of_ble_eq_true rfl)
theorem cK_J15_ensureCapacityInternal_J15_newCapacity {G : Nat → Option Nat} {d pc : Nat} {ls : zLs} {rest : List zV} {h : zH} {r0 : Option Nat} {x1 : Int32} : zK2 (runF G) d mJ15_ensureCapacityInternal pc (zcallTo d mJ15_ensureCapacityInternal 291 [zr r0, zi x1] h ls rest) = if zsum rest ≤ 8 then (callF G d mJ15_newCapacity [zr r0, zi x1] h).bind (zback (runF G) d mJ15_ensureCapacityInternal pc ls rest) else none := zK_call2 (d' := d) rfl rfl (Nat.le_of_ble_eq_true rfl)
theorem cK_J15_newCapacity_J3_newLength {G : Nat → Option Nat} {d pc : Nat} {ls : zLs} {rest : List zV} {h : zH} {x0 : Int32} {x1 : Int32} {x2 : Int32} : zK2 (runF G) d mJ15_newCapacity pc (zcallTo d mJ15_newCapacity 227 [zi x0, zi x1, zi x2] h ls rest) = if zsum rest ≤ 8 then (callF G d mJ3_newLength [zi x0, zi x1, zi x2] h).bind (zback (runF G) d mJ15_newCapacity pc ls rest) else none := zK_call2 (d' := d) rfl rfl (Nat.le_of_ble_eq_true rfl)
theorem cK_J15_inflate_J9_inflate {G : Nat → Option Nat} {d pc : Nat} {ls : zLs} {rest : List zV} {h : zH} {r0 : Option Nat} {x1 : Int32} {r2 : Option Nat} {x3 : Int32} {x4 : Int32} : zK2 (runF G) d mJ15_inflate pc (zcallTo d mJ15_inflate 259 [zr r0, zi x1, zr r2, zi x3, zi x4] h ls rest) = if zsum rest ≤ 8 then (callF G d mJ9_inflate [zr r0, zi x1, zr r2, zi x3, zi x4] h).bind (zback (runF G) d mJ15_inflate pc ls rest) else none := zK_call2 (d' := d) rfl rfl (Nat.le_of_ble_eq_true rfl)
theorem cK_J15_inflate_J10_newBytesFor {G : Nat → Option Nat} {d pc : Nat} {ls : zLs} {rest : List zV} {h : zH} {x0 : Int32} : zK2 (runF G) d mJ15_inflate pc (zcallTo d mJ15_inflate 270 [zi x0] h ls rest) = if zsum rest ≤ 8 then (callF G d mJ10_newBytesFor [zi x0] h).bind (zback (runF G) d mJ15_inflate pc ls rest) else none := zK_call2 (d' := d) rfl rfl (Nat.le_of_ble_eq_true rfl)
theorem cK_J15_inflate_J15_isLatin1 {G : Nat → Option Nat} {d pc : Nat} {ls : zLs} {rest : List zV} {h : zH} {r0 : Option Nat} : zK2 (runF G) d mJ15_inflate pc (zcallTo d mJ15_inflate 292 [zr r0] h ls rest) = if zsum rest ≤ 8 then (callF G d mJ15_isLatin1 [zr r0] h).bind (zback (runF G) d mJ15_inflate pc ls rest) else none := zK_call2 (d' := d) rfl rfl (Nat.le_of_ble_eq_true rfl)
theorem cK_J15_charAt_J4_min {G : Nat → Option Nat} {d pc : Nat} {ls : zLs} {rest : List zV} {h : zH} {x0 : Int32} {x1 : Int32} : zK2 (runF G) d mJ15_charAt pc (zcallTo d mJ15_charAt 230 [zi x0, zi x1] h ls rest) = if zsum rest ≤ 8 then (callF G d mJ4_min [zi x0, zi x1] h).bind (zback (runF G) d mJ15_charAt pc ls rest) else none := zK_call2 (d' := d) rfl rfl (Nat.le_of_ble_eq_true rfl)
theorem cK_J15_charAt_J8_checkIndex {G : Nat → Option Nat} {d pc : Nat} {ls : zLs} {rest : List zV} {h : zH} {x0 : Int32} {x1 : Int32} : zK2 (runF G) d mJ15_charAt pc (zcallTo d mJ15_charAt 249 [zi x0, zi x1] h ls rest) = if zsum rest ≤ 8 then (callF G d mJ8_checkIndex [zi x0, zi x1] h).bind (zback (runF G) d mJ15_charAt pc ls rest) else none := zK_call2 (d' := d) rfl rfl (Nat.le_of_ble_eq_true rfl)
theorem cK_J15_charAt_J10_getChar {G : Nat → Option Nat} {d pc : Nat} {ls : zLs} {rest : List zV} {h : zH} {r0 : Option Nat} {x1 : Int32} : zK2 (runF G) d mJ15_charAt pc (zcallTo d mJ15_charAt 266 [zr r0, zi x1] h ls rest) = if zsum rest ≤ 8 then (callF G d mJ10_getChar [zr r0, zi x1] h).bind (zback (runF G) d mJ15_charAt pc ls rest) else none := zK_call2 (d' := d) rfl rfl (Nat.le_of_ble_eq_true rfl)
theorem cK_J16_init_J15_init {G : Nat → Option Nat} {d pc : Nat} {ls : zLs} {rest : List zV} {h : zH} {r0 : Option Nat} {x1 : Int32} : zK2 (runF G) d mJ16_init pc (zcallTo d mJ16_init 288 [zr r0, zi x1] h ls rest) = if zsum rest ≤ 8 then (callF G d mJ15_init [zr r0, zi x1] h).bind (zback (runF G) d mJ16_init pc ls rest) else none := zK_call2 (d' := d) rfl rfl (Nat.le_of_ble_eq_true rfl)
theorem cK_J16_append_J15_append {G : Nat → Option Nat} {d pc : Nat} {ls : zLs} {rest : List zV} {h : zH} {r0 : Option Nat} {x1 : Int32} : zK2 (runF G) d mJ16_append pc (zcallTo d mJ16_append 289 [zr r0, zi x1] h ls rest) = if zsum rest ≤ 8 then (callF G d mJ15_append [zr r0, zi x1] h).bind (zback (runF G) d mJ16_append pc ls rest) else none := zK_call2 (d' := d) rfl rfl (Nat.le_of_ble_eq_true rfl)
theorem cK_J16_toString_J8_init {G : Nat → Option Nat} {d pc : Nat} {ls : zLs} {rest : List zV} {h : zH} {r0 : Option Nat} {r1 : Option Nat} : zK2 (runF G) d mJ16_toString pc (zcallTo d mJ16_toString 251 [zr r0, zr r1] h ls rest) = if zsum rest ≤ 8 then (callF G d mJ8_init [zr r0, zr r1] h).bind (zback (runF G) d mJ16_toString pc ls rest) else none := zK_call2 (d' := d) rfl rfl (Nat.le_of_ble_eq_true rfl)
theorem cK_J16_length_J15_length {G : Nat → Option Nat} {d pc : Nat} {ls : zLs} {rest : List zV} {h : zH} {r0 : Option Nat} : zK2 (runF G) d mJ16_length pc (zcallTo d mJ16_length 295 [zr r0] h ls rest) = if zsum rest ≤ 8 then (callF G d mJ15_length [zr r0] h).bind (zback (runF G) d mJ16_length pc ls rest) else none := zK_call2 (d' := d) rfl rfl (Nat.le_of_ble_eq_true rfl)
theorem cK_J16_charAt_J15_charAt {G : Nat → Option Nat} {d pc : Nat} {ls : zLs} {rest : List zV} {h : zH} {r0 : Option Nat} {x1 : Int32} : zK2 (runF G) d mJ16_charAt pc (zcallTo d mJ16_charAt 296 [zr r0, zi x1] h ls rest) = if zsum rest ≤ 8 then (callF G d mJ15_charAt [zr r0, zi x1] h).bind (zback (runF G) d mJ16_charAt pc ls rest) else none := zK_call2 (d' := d) rfl rfl (Nat.le_of_ble_eq_true rfl)
theorem cK_J18_init_J14_init_2 {G : Nat → Option Nat} {d pc : Nat} {ls : zLs} {rest : List zV} {h : zH} {r0 : Option Nat} : zK2 (runF G) d mJ18_init pc (zcallTo d mJ18_init 287 [zr r0] h ls rest) = if zsum rest ≤ 8 then (callF G d mJ14_init_2 [zr r0] h).bind (zback (runF G) d mJ18_init pc ls rest) else none := zK_call2 (d' := d) rfl rfl (Nat.le_of_ble_eq_true rfl)
theorem cK_law_X1_init {G : Nat → Option Nat} {d pc : Nat} {ls : zLs} {rest : List zV} {h : zH} {r0 : Option Nat} : zK2 (runF G) d mLaw pc (zcallTo d mLaw 4 [zr r0] h ls rest) = if zsum rest ≤ 8 then (callF G d mX1_init [zr r0] h).bind (zback (runF G) d mLaw pc ls rest) else none := zK_call2 (d' := d) rfl rfl (Nat.le_of_ble_eq_true rfl)
theorem cK_law_X1_shop {G : Nat → Option Nat} {d pc : Nat} {ls : zLs} {rest : List zV} {h : zH} {r0 : Option Nat} {x1 : Int32} {x2 : Int32} {x3 : Int32} {x4 : Int32} {x5 : Int32} {x6 : Int32} : zK2 (runF G) d mLaw pc (zcallTo d mLaw 9 [zr r0, zi x1, zi x2, zi x3, zi x4, zi x5, zi x6] h ls rest) = if zsum rest ≤ 8 then (callF G d mX1_shop [zr r0, zi x1, zi x2, zi x3, zi x4, zi x5, zi x6] h).bind (zback (runF G) d mLaw pc ls rest) else none := zK_call2 (d' := d) rfl rfl (Nat.le_of_ble_eq_true rfl)
theorem cK_law_X4_thrown {G : Nat → Option Nat} {d pc : Nat} {ls : zLs} {rest : List zV} {h : zH} {r0 : Option Nat} : zK2 (runF G) d mLaw pc (zcallTo d mLaw 78 [zr r0] h ls rest) = if zsum rest ≤ 8 then (callF G d mX4_thrown [zr r0] h).bind (zback (runF G) d mLaw pc ls rest) else none := zK_call2 (d' := d) rfl rfl (Nat.le_of_ble_eq_true rfl)
theorem cK_law_X4_feed {G : Nat → Option Nat} {d pc : Nat} {ls : zLs} {rest : List zV} {h : zH} {r0 : Option Nat} {z1 : Int64} {z2 : Int64} {z3 : Int64} : zK2 (runF G) d mLaw pc (zcallTo d mLaw 79 [zr r0, zl z1, zl z2, zl z3] h ls rest) = if zsum rest ≤ 8 then (callF G d mX4_feed [zr r0, zl z1, zl z2, zl z3] h).bind (zback (runF G) d mLaw pc ls rest) else none := zK_call2 (d' := d) rfl rfl (Nat.le_of_ble_eq_true rfl)
theorem cK_law_X4_init {G : Nat → Option Nat} {d pc : Nat} {ls : zLs} {rest : List zV} {h : zH} {r0 : Option Nat} : zK2 (runF G) d mLaw pc (zcallTo d mLaw 81 [zr r0] h ls rest) = if zsum rest ≤ 8 then (callF G d mX4_init [zr r0] h).bind (zback (runF G) d mLaw pc ls rest) else none := zK_call2 (d' := d) rfl rfl (Nat.le_of_ble_eq_true rfl)
theorem cK_law_X4_brief {G : Nat → Option Nat} {d pc : Nat} {ls : zLs} {rest : List zV} {h : zH} {r0 : Option Nat} {x1 : Int32} {x2 : Int32} : zK2 (runF G) d mLaw pc (zcallTo d mLaw 82 [zr r0, zi x1, zi x2] h ls rest) = if zsum rest ≤ 8 then (callF G d mX4_brief [zr r0, zi x1, zi x2] h).bind (zback (runF G) d mLaw pc ls rest) else none := zK_call2 (d' := d) rfl rfl (Nat.le_of_ble_eq_true rfl)
theorem cK_law_X4_days {G : Nat → Option Nat} {d pc : Nat} {ls : zLs} {rest : List zV} {h : zH} {r0 : Option Nat} {x1 : Int32} : zK2 (runF G) d mLaw pc (zcallTo d mLaw 108 [zr r0, zi x1] h ls rest) = if zsum rest ≤ 8 then (callF G d mX4_days [zr r0, zi x1] h).bind (zback (runF G) d mLaw pc ls rest) else none := zK_call2 (d' := d) rfl rfl (Nat.le_of_ble_eq_true rfl)
theorem cK_law_X4_view {G : Nat → Option Nat} {d pc : Nat} {ls : zLs} {rest : List zV} {h : zH} {r0 : Option Nat} {x1 : Int32} : zK2 (runF G) d mLaw pc (zcallTo d mLaw 110 [zr r0, zi x1] h ls rest) = if zsum rest ≤ 8 then (callF G d mX4_view [zr r0, zi x1] h).bind (zback (runF G) d mLaw pc ls rest) else none := zK_call2 (d' := d) rfl rfl (Nat.le_of_ble_eq_true rfl)
theorem cK_law_X4_shop {G : Nat → Option Nat} {d pc : Nat} {ls : zLs} {rest : List zV} {h : zH} {r0 : Option Nat} {x1 : Int32} {x2 : Int32} {x3 : Int32} {x4 : Int32} {x5 : Int32} {x6 : Int32} : zK2 (runF G) d mLaw pc (zcallTo d mLaw 111 [zr r0, zi x1, zi x2, zi x3, zi x4, zi x5, zi x6] h ls rest) = if zsum rest ≤ 8 then (callF G d mX4_shop [zr r0, zi x1, zi x2, zi x3, zi x4, zi x5, zi x6] h).bind (zback (runF G) d mLaw pc ls rest) else none := zK_call2 (d' := d) rfl rfl (Nat.le_of_ble_eq_true rfl)
theorem cK_law_X4_buyer {G : Nat → Option Nat} {d pc : Nat} {ls : zLs} {rest : List zV} {h : zH} {r0 : Option Nat} {x1 : Int32} {x2 : Int32} : zK2 (runF G) d mLaw pc (zcallTo d mLaw 113 [zr r0, zi x1, zi x2] h ls rest) = if zsum rest ≤ 8 then (callF G d mX4_buyer [zr r0, zi x1, zi x2] h).bind (zback (runF G) d mLaw pc ls rest) else none := zK_call2 (d' := d) rfl rfl (Nat.le_of_ble_eq_true rfl)
theorem cK_law_X4_terms {G : Nat → Option Nat} {d pc : Nat} {ls : zLs} {rest : List zV} {h : zH} {r0 : Option Nat} {x1 : Int32} {x2 : Int32} {x3 : Int32} : zK2 (runF G) d mLaw pc (zcallTo d mLaw 114 [zr r0, zi x1, zi x2, zi x3] h ls rest) = if zsum rest ≤ 8 then (callF G d mX4_terms [zr r0, zi x1, zi x2, zi x3] h).bind (zback (runF G) d mLaw pc ls rest) else none := zK_call2 (d' := d) rfl rfl (Nat.le_of_ble_eq_true rfl)
theorem cK_law_X4_rest {G : Nat → Option Nat} {d pc : Nat} {ls : zLs} {rest : List zV} {h : zH} {r0 : Option Nat} {x1 : Int32} {x2 : Int32} : zK2 (runF G) d mLaw pc (zcallTo d mLaw 115 [zr r0, zi x1, zi x2] h ls rest) = if zsum rest ≤ 8 then (callF G d mX4_rest [zr r0, zi x1, zi x2] h).bind (zback (runF G) d mLaw pc ls rest) else none := zK_call2 (d' := d) rfl rfl (Nat.le_of_ble_eq_true rfl)
theorem cK_law_X4_visit {G : Nat → Option Nat} {d pc : Nat} {ls : zLs} {rest : List zV} {h : zH} {r0 : Option Nat} {x1 : Int32} {x2 : Int32} {x3 : Int32} {x4 : Int32} {x5 : Int32} {x6 : Int32} {x7 : Int32} : zK2 (runF G) d mLaw pc (zcallTo d mLaw 116 [zr r0, zi x1, zi x2, zi x3, zi x4, zi x5, zi x6, zi x7] h ls rest) = if zsum rest ≤ 8 then (callF G d mX4_visit [zr r0, zi x1, zi x2, zi x3, zi x4, zi x5, zi x6, zi x7] h).bind (zback (runF G) d mLaw pc ls rest) else none := zK_call2 (d' := d) rfl rfl (Nat.le_of_ble_eq_true rfl)
theorem cK_law_X4_appeal {G : Nat → Option Nat} {d pc : Nat} {ls : zLs} {rest : List zV} {h : zH} {r0 : Option Nat} {x1 : Int32} {x2 : Int32} : zK2 (runF G) d mLaw pc (zcallTo d mLaw 120 [zr r0, zi x1, zi x2] h ls rest) = if zsum rest ≤ 8 then (callF G d mX4_appeal [zr r0, zi x1, zi x2] h).bind (zback (runF G) d mLaw pc ls rest) else none := zK_call2 (d' := d) rfl rfl (Nat.le_of_ble_eq_true rfl)
theorem cK_law_X4_look {G : Nat → Option Nat} {d pc : Nat} {ls : zLs} {rest : List zV} {h : zH} {r0 : Option Nat} {x1 : Int32} {x2 : Int32} : zK2 (runF G) d mLaw pc (zcallTo d mLaw 121 [zr r0, zi x1, zi x2] h ls rest) = if zsum rest ≤ 8 then (callF G d mX4_look [zr r0, zi x1, zi x2] h).bind (zback (runF G) d mLaw pc ls rest) else none := zK_call2 (d' := d) rfl rfl (Nat.le_of_ble_eq_true rfl)
theorem cK_law_X4_fewest {G : Nat → Option Nat} {d pc : Nat} {ls : zLs} {rest : List zV} {h : zH} {r0 : Option Nat} {x1 : Int32} {x2 : Int32} : zK2 (runF G) d mLaw pc (zcallTo d mLaw 141 [zr r0, zi x1, zi x2] h ls rest) = if zsum rest ≤ 8 then (callF G d mX4_fewest [zr r0, zi x1, zi x2] h).bind (zback (runF G) d mLaw pc ls rest) else none := zK_call2 (d' := d) rfl rfl (Nat.le_of_ble_eq_true rfl)
theorem cK_law_X4_set {G : Nat → Option Nat} {d pc : Nat} {ls : zLs} {rest : List zV} {h : zH} {r0 : Option Nat} {x1 : Int32} {x2 : Int32} {x3 : Int32} : zK2 (runF G) d mLaw pc (zcallTo d mLaw 143 [zr r0, zi x1, zi x2, zi x3] h ls rest) = if zsum rest ≤ 8 then (callF G d mX4_set [zr r0, zi x1, zi x2, zi x3] h).bind (zback (runF G) d mLaw pc ls rest) else none := zK_call2 (d' := d) rfl rfl (Nat.le_of_ble_eq_true rfl)
theorem cK_law_X4_fair {G : Nat → Option Nat} {d pc : Nat} {ls : zLs} {rest : List zV} {h : zH} {r0 : Option Nat} {x1 : Int32} : zK2 (runF G) d mLaw pc (zcallTo d mLaw 144 [zr r0, zi x1] h ls rest) = if zsum rest ≤ 8 then (callF G d mX4_fair [zr r0, zi x1] h).bind (zback (runF G) d mLaw pc ls rest) else none := zK_call2 (d' := d) rfl rfl (Nat.le_of_ble_eq_true rfl)
theorem cK_law_X4_lean {G : Nat → Option Nat} {d pc : Nat} {ls : zLs} {rest : List zV} {h : zH} {r0 : Option Nat} {x1 : Int32} : zK2 (runF G) d mLaw pc (zcallTo d mLaw 148 [zr r0, zi x1] h ls rest) = if zsum rest ≤ 8 then (callF G d mX4_lean [zr r0, zi x1] h).bind (zback (runF G) d mLaw pc ls rest) else none := zK_call2 (d' := d) rfl rfl (Nat.le_of_ble_eq_true rfl)
theorem cK_law_X4_meetings {G : Nat → Option Nat} {d pc : Nat} {ls : zLs} {rest : List zV} {h : zH} {r0 : Option Nat} {x1 : Int32} {x2 : Int32} : zK2 (runF G) d mLaw pc (zcallTo d mLaw 149 [zr r0, zi x1, zi x2] h ls rest) = if zsum rest ≤ 8 then (callF G d mX4_meetings [zr r0, zi x1, zi x2] h).bind (zback (runF G) d mLaw pc ls rest) else none := zK_call2 (d' := d) rfl rfl (Nat.le_of_ble_eq_true rfl)
theorem cK_law_X4_mean {G : Nat → Option Nat} {d pc : Nat} {ls : zLs} {rest : List zV} {h : zH} {r0 : Option Nat} {x1 : Int32} {x2 : Int32} {x3 : Int32} : zK2 (runF G) d mLaw pc (zcallTo d mLaw 150 [zr r0, zi x1, zi x2, zi x3] h ls rest) = if zsum rest ≤ 8 then (callF G d mX4_mean [zr r0, zi x1, zi x2, zi x3] h).bind (zback (runF G) d mLaw pc ls rest) else none := zK_call2 (d' := d) rfl rfl (Nat.le_of_ble_eq_true rfl)
theorem cK_law_X4_doubt {G : Nat → Option Nat} {d pc : Nat} {ls : zLs} {rest : List zV} {h : zH} {r0 : Option Nat} {x1 : Int32} {x2 : Int32} {x3 : Int32} : zK2 (runF G) d mLaw pc (zcallTo d mLaw 154 [zr r0, zi x1, zi x2, zi x3] h ls rest) = if zsum rest ≤ 8 then (callF G d mX4_doubt [zr r0, zi x1, zi x2, zi x3] h).bind (zback (runF G) d mLaw pc ls rest) else none := zK_call2 (d' := d) rfl rfl (Nat.le_of_ble_eq_true rfl)
theorem cK_law_X4_apart {G : Nat → Option Nat} {d pc : Nat} {ls : zLs} {rest : List zV} {h : zH} {r0 : Option Nat} {x1 : Int32} {x2 : Int32} {x3 : Int32} {x4 : Int32} : zK2 (runF G) d mLaw pc (zcallTo d mLaw 156 [zr r0, zi x1, zi x2, zi x3, zi x4] h ls rest) = if zsum rest ≤ 8 then (callF G d mX4_apart [zr r0, zi x1, zi x2, zi x3, zi x4] h).bind (zback (runF G) d mLaw pc ls rest) else none := zK_call2 (d' := d) rfl rfl (Nat.le_of_ble_eq_true rfl)
theorem cK_law_X4_order {G : Nat → Option Nat} {d pc : Nat} {ls : zLs} {rest : List zV} {h : zH} {r0 : Option Nat} {x1 : Int32} {x2 : Int32} {x3 : Int32} {x4 : Int32} : zK2 (runF G) d mLaw pc (zcallTo d mLaw 159 [zr r0, zi x1, zi x2, zi x3, zi x4] h ls rest) = if zsum rest ≤ 8 then (callF G d mX4_order [zr r0, zi x1, zi x2, zi x3, zi x4] h).bind (zback (runF G) d mLaw pc ls rest) else none := zK_call2 (d' := d) rfl rfl (Nat.le_of_ble_eq_true rfl)
theorem cK_law_X4_enough {G : Nat → Option Nat} {d pc : Nat} {ls : zLs} {rest : List zV} {h : zH} {r0 : Option Nat} {x1 : Int32} {x2 : Int32} {x3 : Int32} {x4 : Int32} : zK2 (runF G) d mLaw pc (zcallTo d mLaw 160 [zr r0, zi x1, zi x2, zi x3, zi x4] h ls rest) = if zsum rest ≤ 8 then (callF G d mX4_enough [zr r0, zi x1, zi x2, zi x3, zi x4] h).bind (zback (runF G) d mLaw pc ls rest) else none := zK_call2 (d' := d) rfl rfl (Nat.le_of_ble_eq_true rfl)
theorem cK_law_X4_may {G : Nat → Option Nat} {d pc : Nat} {ls : zLs} {rest : List zV} {h : zH} {r0 : Option Nat} {x1 : Int32} {x2 : Int32} {x3 : Int32} : zK2 (runF G) d mLaw pc (zcallTo d mLaw 161 [zr r0, zi x1, zi x2, zi x3] h ls rest) = if zsum rest ≤ 8 then (callF G d mX4_may [zr r0, zi x1, zi x2, zi x3] h).bind (zback (runF G) d mLaw pc ls rest) else none := zK_call2 (d' := d) rfl rfl (Nat.le_of_ble_eq_true rfl)
theorem cK_law_X4_given {G : Nat → Option Nat} {d pc : Nat} {ls : zLs} {rest : List zV} {h : zH} {r0 : Option Nat} {x1 : Int32} {x2 : Int32} {x3 : Int32} : zK2 (runF G) d mLaw pc (zcallTo d mLaw 163 [zr r0, zi x1, zi x2, zi x3] h ls rest) = if zsum rest ≤ 8 then (callF G d mX4_given [zr r0, zi x1, zi x2, zi x3] h).bind (zback (runF G) d mLaw pc ls rest) else none := zK_call2 (d' := d) rfl rfl (Nat.le_of_ble_eq_true rfl)
theorem cK_law_X4_drawn {G : Nat → Option Nat} {d pc : Nat} {ls : zLs} {rest : List zV} {h : zH} {r0 : Option Nat} {x1 : Int32} {x2 : Int32} {x3 : Int32} : zK2 (runF G) d mLaw pc (zcallTo d mLaw 167 [zr r0, zi x1, zi x2, zi x3] h ls rest) = if zsum rest ≤ 8 then (callF G d mX4_drawn [zr r0, zi x1, zi x2, zi x3] h).bind (zback (runF G) d mLaw pc ls rest) else none := zK_call2 (d' := d) rfl rfl (Nat.le_of_ble_eq_true rfl)
theorem cK_law_X4_sway {G : Nat → Option Nat} {d pc : Nat} {ls : zLs} {rest : List zV} {h : zH} {r0 : Option Nat} {x1 : Int32} {x2 : Int32} : zK2 (runF G) d mLaw pc (zcallTo d mLaw 168 [zr r0, zi x1, zi x2] h ls rest) = if zsum rest ≤ 8 then (callF G d mX4_sway [zr r0, zi x1, zi x2] h).bind (zback (runF G) d mLaw pc ls rest) else none := zK_call2 (d' := d) rfl rfl (Nat.le_of_ble_eq_true rfl)
theorem cK_law_X4_sum {G : Nat → Option Nat} {d pc : Nat} {ls : zLs} {rest : List zV} {h : zH} {r0 : Option Nat} {x1 : Int32} {x2 : Int32} {x3 : Int32} {x4 : Int32} : zK2 (runF G) d mLaw pc (zcallTo d mLaw 169 [zr r0, zi x1, zi x2, zi x3, zi x4] h ls rest) = if zsum rest ≤ 8 then (callF G d mX4_sum [zr r0, zi x1, zi x2, zi x3, zi x4] h).bind (zback (runF G) d mLaw pc ls rest) else none := zK_call2 (d' := d) rfl rfl (Nat.le_of_ble_eq_true rfl)
theorem cK_law_X4_count {G : Nat → Option Nat} {d pc : Nat} {ls : zLs} {rest : List zV} {h : zH} {r0 : Option Nat} {x1 : Int32} : zK2 (runF G) d mLaw pc (zcallTo d mLaw 170 [zr r0, zi x1] h ls rest) = if zsum rest ≤ 8 then (callF G d mX4_count [zr r0, zi x1] h).bind (zback (runF G) d mLaw pc ls rest) else none := zK_call2 (d' := d) rfl rfl (Nat.le_of_ble_eq_true rfl)
