/-! M: words of the callees, constants -/
set_option maxRecDepth 100000
theorem zplX5 : plainName RX5 = true := by decide
theorem zr_idivE {K : zC} {own : String} {cc : ByteArray} {ret : Option FieldType} {nL fr lo mc ms : Nat} {σ : zH} {sz k n pc : Nat} {lv : List (Nat × Value)} {stk : List Value} (hX : zOk K own cc ret nL fr lo mc ms) {x y z : Int32} (hne : ¬ y = 0) (hz : z = x / y) (hd : decode cc pc = .ok (.idiv, 1)) (kk : VW K σ sz k n (pc + 1) lv (.int z :: stk)) : VW K σ sz k n pc lv (.int y :: .int x :: stk) := by
  subst hz
  exact zr_idiv hX hne hd kk
theorem zr_iremE {K : zC} {own : String} {cc : ByteArray} {ret : Option FieldType} {nL fr lo mc ms : Nat} {σ : zH} {sz k n pc : Nat} {lv : List (Nat × Value)} {stk : List Value} (hX : zOk K own cc ret nL fr lo mc ms) {x y z : Int32} (hne : ¬ y = 0) (hz : z = x - x / y * y) (hd : decode cc pc = .ok (.irem, 1)) (kk : VW K σ sz k n (pc + 1) lv (.int z :: stk)) : VW K σ sz k n pc lv (.int y :: .int x :: stk) := by
  subst hz
  exact zr_irem hX hne hd kk
theorem zdiv_spec {x y z : Int32} (h : zdiv x y = some z) : ∃ hne : ¬ y = 0, z = x / y := by
  unfold zdiv at h
  split at h
  · cases h
  · rename_i g
    exact ⟨g, (Option.some.inj h).symm⟩
theorem zrem_spec {x y z : Int32} (h : zrem x y = some z) : ∃ hne : ¬ y = 0, z = x - x / y * y := by
  unfold zrem at h
  split at h
  · cases h
  · rename_i g
    exact ⟨g, (Option.some.inj h).symm⟩
theorem zcb_m2 : (Int8.ofInt (-2)).toInt32 = (-2 : Int32) := by decide
theorem zcb_11 : (Int8.ofInt 11).toInt32 = (11 : Int32) := by decide
theorem zcb_13 : (Int8.ofInt 13).toInt32 = (13 : Int32) := by decide
theorem zcb_14 : (Int8.ofInt 14).toInt32 = (14 : Int32) := by decide
theorem zcb_15 : (Int8.ofInt 15).toInt32 = (15 : Int32) := by decide
theorem zcb_17 : (Int8.ofInt 17).toInt32 = (17 : Int32) := by decide
theorem zcb_30 : (Int8.ofInt 30).toInt32 = (30 : Int32) := by decide
theorem zcb_48 : (Int8.ofInt 48).toInt32 = (48 : Int32) := by decide
theorem zcs_4095 : (Int16.ofInt 4095).toInt32 = (4095 : Int32) := by decide
theorem zcs_32767 : (Int16.ofInt 32767).toInt32 = (32767 : Int32) := by decide
theorem zwX5_thrown : zWd yX5_thrown cX5_thrown 1 (some .int) 0 := ⟨q117, q1958, by decide, by decide, by decide +kernel⟩
theorem zwX5_isIn : zWd yX5_isIn cX5_isIn 3 (some .boolean) 3 := ⟨q117, q1965, by decide, by decide, by decide +kernel⟩
theorem zwX5_all : zWd yX5_all cX5_all 1 (some .int) 1 := ⟨q117, q1968, by decide, by decide, by decide +kernel⟩
theorem zwX5_addsVariable : zWd yX5_addsVariable cX5_addsVariable 5 (some .int) 4 := ⟨q117, q1973, by decide, by decide, by decide +kernel⟩
theorem zwX5_variable : zWd yX5_variable cX5_variable 4 (some .int) 2 := ⟨q117, q1962, by decide, by decide, by decide +kernel⟩
theorem zwX5_ratio : zWd yX5_ratio cX5_ratio 3 (some .int) 2 := ⟨q117, q1977, by decide, by decide, by decide +kernel⟩
theorem zwX5_isVariable : zWd yX5_isVariable cX5_isVariable 2 (some .boolean) 1 := ⟨q117, q1985, by decide, by decide, by decide +kernel⟩
theorem zwX5_name : zWd yX5_name cX5_name 2 (some .int) 1 := ⟨q117, q1981, by decide, by decide, by decide +kernel⟩
theorem zwX5_number : zWd yX5_number cX5_number 2 (some .int) 1 := ⟨q117, q1989, by decide, by decide, by decide +kernel⟩
theorem zwX5_move : zWd yX5_move cX5_move 4 (some .int) 3 := ⟨q117, q1993, by decide, by decide, by decide +kernel⟩
theorem zwX5_values : zWd yX5_values cX5_values 1 (some .int) 1 := ⟨q117, q2004, by decide, by decide, by decide +kernel⟩
theorem zwX5_isValue : zWd yX5_isValue cX5_isValue 3 (some .boolean) 2 := ⟨q117, q2001, by decide, by decide, by decide +kernel⟩
theorem zwX5_literal : zWd yX5_literal cX5_literal 4 (some .int) 3 := ⟨q117, q1997, by decide, by decide, by decide +kernel⟩
theorem zwX5_isRow : zWd yX5_isRow cX5_isRow 4 (some .boolean) 1 := ⟨q117, q2012, by decide, by decide, by decide +kernel⟩
theorem zwX5_hasRoom : zWd yX5_hasRoom cX5_hasRoom 1 (some .boolean) 0 := ⟨q117, q2016, by decide, by decide, by decide +kernel⟩
theorem zwX5_places : zWd yX5_places cX5_places 3 none 2 := ⟨q117, q2024, by decide, by decide, by decide +kernel⟩
theorem zwX5_takesRow : zWd yX5_takesRow cX5_takesRow 3 none 1 := ⟨q117, q2020, by decide, by decide, by decide +kernel⟩
theorem zwX5_adds : zWd yX5_adds cX5_adds 3 (some .int) 2 := ⟨q117, q2028, by decide, by decide, by decide +kernel⟩
theorem zwX5_linear : zWd yX5_linear cX5_linear 5 (some .int) 2 := ⟨q117, q2008, by decide, by decide, by decide +kernel⟩
theorem zwX5_rowOf : zWd yX5_rowOf cX5_rowOf 3 (some .int) 1 := ⟨q117, q2036, by decide, by decide, by decide +kernel⟩
theorem zwX5_different : zWd yX5_different cX5_different 1 (some .int) 0 := ⟨q117, q2032, by decide, by decide, by decide +kernel⟩
theorem zwX5_order : zWd yX5_order cX5_order 1 (some .int) 0 := ⟨q117, q2040, by decide, by decide, by decide +kernel⟩
theorem zwX5_regular : zWd yX5_regular cX5_regular 4 (some .int) 1 := ⟨q117, q2044, by decide, by decide, by decide +kernel⟩
theorem zwX5_element : zWd yX5_element cX5_element 4 (some .int) 2 := ⟨q117, q2048, by decide, by decide, by decide +kernel⟩
theorem zwX5_third : zWd yX5_third cX5_third 1 (some .int) 1 := ⟨q117, q2055, by decide, by decide, by decide +kernel⟩
theorem zwX5_of : zWd yX5_of cX5_of 10 (some .int) 7 := ⟨q117, q2059, by decide, by decide, by decide +kernel⟩
theorem zwX5_when : zWd yX5_when cX5_when 5 (some .int) 4 := ⟨q117, q2052, by decide, by decide, by decide +kernel⟩
theorem zwX5_sets : zWd yX5_sets cX5_sets 5 (some .int) 4 := ⟨q117, q2063, by decide, by decide, by decide +kernel⟩
theorem zwX5_within : zWd yX5_within cX5_within 3 (some .int) 2 := ⟨q117, q2067, by decide, by decide, by decide +kernel⟩
theorem zwX5_measure : zWd yX5_measure cX5_measure 4 (some .int) 2 := ⟨q117, q2071, by decide, by decide, by decide +kernel⟩
theorem zwX5_member : zWd yX5_member cX5_member 4 (some .int) 3 := ⟨q117, q2075, by decide, by decide, by decide +kernel⟩
theorem zwX5_joined : zWd yX5_joined cX5_joined 4 (some .int) 3 := ⟨q117, q2079, by decide, by decide, by decide +kernel⟩
theorem zwX5_prefix : zWd yX5_prefix cX5_prefix 3 (some .int) 2 := ⟨q117, q2083, by decide, by decide, by decide +kernel⟩
theorem zwX5_letter : zWd yX5_letter cX5_letter 4 (some .int) 3 := ⟨q117, q2087, by decide, by decide, by decide +kernel⟩
theorem zwX5_takesLiterals : zWd yX5_takesLiterals cX5_takesLiterals 3 none 1 := ⟨q117, q2095, by decide, by decide, by decide +kernel⟩
theorem zwX5_clause : zWd yX5_clause cX5_clause 2 (some .int) 0 := ⟨q117, q2091, by decide, by decide, by decide +kernel⟩
theorem zwX5_isTree : zWd yX5_isTree cX5_isTree 2 (some .boolean) 1 := ⟨q117, q2103, by decide, by decide, by decide +kernel⟩
theorem zwX5_symbol : zWd yX5_symbol cX5_symbol 3 (some .int) 2 := ⟨q117, q2099, by decide, by decide, by decide +kernel⟩
theorem zwX5_constraints : zWd yX5_constraints cX5_constraints 1 (some .int) 0 := ⟨q117, q2107, by decide, by decide, by decide +kernel⟩
theorem zwX5_decide : zWd yX5_decide cX5_decide 4 (some .int) 3 := ⟨q117, q2111, by decide, by decide, by decide +kernel⟩
theorem zwX5_back : zWd yX5_back cX5_back 2 (some .int) 1 := ⟨q117, q2115, by decide, by decide, by decide +kernel⟩
theorem zwX5_takesOne : zWd yX5_takesOne cX5_takesOne 4 none 3 := ⟨q117, q2131, by decide, by decide, by decide +kernel⟩
theorem zwX5_takesDecisions : zWd yX5_takesDecisions cX5_takesDecisions 3 none 1 := ⟨q117, q2127, by decide, by decide, by decide +kernel⟩
theorem zwX5_isEmpty : zWd yX5_isEmpty cX5_isEmpty 2 (some .boolean) 1 := ⟨q117, q2143, by decide, by decide, by decide +kernel⟩
theorem zwX5_looksForFailure : zWd yX5_looksForFailure cX5_looksForFailure 2 none 0 := ⟨q117, q2139, by decide, by decide, by decide +kernel⟩
theorem zwX5_hasBit : zWd yX5_hasBit cX5_hasBit 2 (some .boolean) 2 := ⟨q117, q2158, by decide, by decide, by decide +kernel⟩
theorem zwX5_unit : zWd yX5_unit cX5_unit 2 (some .int) 1 := ⟨q117, q2166, by decide, by decide, by decide +kernel⟩
theorem zwX5_highest : zWd yX5_highest cX5_highest 2 (some .int) 1 := ⟨q117, q2177, by decide, by decide, by decide +kernel⟩
theorem zwX5_lowest : zWd yX5_lowest cX5_lowest 2 (some .int) 1 := ⟨q117, q2180, by decide, by decide, by decide +kernel⟩
theorem zwX5_end : zWd yX5_end cX5_end 3 (some .int) 2 := ⟨q117, q2174, by decide, by decide, by decide +kernel⟩
theorem zwX5_most : zWd yX5_most cX5_most 6 (some .int) 3 := ⟨q117, q2170, by decide, by decide, by decide +kernel⟩
theorem zwX5_linearAgrees : zWd yX5_linearAgrees cX5_linearAgrees 8 (some .boolean) 3 := ⟨q117, q2162, by decide, by decide, by decide +kernel⟩
theorem zwX5_supports : zWd yX5_supports cX5_supports 4 none 3 := ⟨q117, q2184, by decide, by decide, by decide +kernel⟩
theorem zwX5_byLinear : zWd yX5_byLinear cX5_byLinear 5 none 1 := ⟨q117, q2155, by decide, by decide, by decide +kernel⟩
theorem zwX5_domainAt : zWd yX5_domainAt cX5_domainAt 3 (some .int) 2 := ⟨q117, q2192, by decide, by decide, by decide +kernel⟩
theorem zwX5_count : zWd yX5_count cX5_count 3 (some .int) 1 := ⟨q117, q2199, by decide, by decide, by decide +kernel⟩
theorem zwX5_canDiffer : zWd yX5_canDiffer cX5_canDiffer 8 (some .boolean) 3 := ⟨q117, q2196, by decide, by decide, by decide +kernel⟩
theorem zwX5_byDifferent : zWd yX5_byDifferent cX5_byDifferent 4 none 1 := ⟨q117, q2188, by decide, by decide, by decide +kernel⟩
theorem zwX5_atLeast : zWd yX5_atLeast cX5_atLeast 2 (some .int) 2 := ⟨q117, q2206, by decide, by decide, by decide +kernel⟩
theorem zwX5_atMost : zWd yX5_atMost cX5_atMost 2 (some .int) 2 := ⟨q117, q2209, by decide, by decide, by decide +kernel⟩
theorem zwX5_ordered : zWd yX5_ordered cX5_ordered 7 none 1 := ⟨q117, q2203, by decide, by decide, by decide +kernel⟩
theorem zwX5_stepped : zWd yX5_stepped cX5_stepped 9 (some .int) 4 := ⟨q117, q2217, by decide, by decide, by decide +kernel⟩
theorem zwX5_byRegular : zWd yX5_byRegular cX5_byRegular 7 none 1 := ⟨q117, q2213, by decide, by decide, by decide +kernel⟩
theorem zwX5_byElement : zWd yX5_byElement cX5_byElement 9 none 1 := ⟨q117, q2221, by decide, by decide, by decide +kernel⟩
theorem zwX5_canHold : zWd yX5_canHold cX5_canHold 5 (some .boolean) 2 := ⟨q117, q2229, by decide, by decide, by decide +kernel⟩
theorem zwX5_byClause : zWd yX5_byClause cX5_byClause 5 none 1 := ⟨q117, q2225, by decide, by decide, by decide +kernel⟩
theorem zwX5_find : zWd yX5_find cX5_find 3 (some .int) 1 := ⟨q117, q2233, by decide, by decide, by decide +kernel⟩
theorem zwX5_lengthOf : zWd yX5_lengthOf cX5_lengthOf 1 (some .int) 1 := ⟨q117, q2243, by decide, by decide, by decide +kernel⟩
theorem zwX5_bitsOf : zWd yX5_bitsOf cX5_bitsOf 1 (some .int) 1 := ⟨q117, q2246, by decide, by decide, by decide +kernel⟩
theorem zwX5_begins : zWd yX5_begins cX5_begins 3 (some .boolean) 2 := ⟨q117, q2240, by decide, by decide, by decide +kernel⟩
theorem zwX5_paired : zWd yX5_paired cX5_paired 5 none 1 := ⟨q117, q2237, by decide, by decide, by decide +kernel⟩
theorem zwX5_wordOf : zWd yX5_wordOf cX5_wordOf 2 (some .int) 2 := ⟨q117, q2260, by decide, by decide, by decide +kernel⟩
theorem zwX5_joinedWord : zWd yX5_joinedWord cX5_joinedWord 3 (some .int) 2 := ⟨q117, q2257, by decide, by decide, by decide +kernel⟩
theorem zwX5_letterOf : zWd yX5_letterOf cX5_letterOf 2 (some .int) 2 := ⟨q117, q2263, by decide, by decide, by decide +kernel⟩
theorem zwX5_first : zWd yX5_first cX5_first 4 (some .int) 3 := ⟨q117, q2254, by decide, by decide, by decide +kernel⟩
theorem zwX5_functional : zWd yX5_functional cX5_functional 6 none 1 := ⟨q117, q2250, by decide, by decide, by decide +kernel⟩
theorem zwX5_supportsAll : zWd yX5_supportsAll cX5_supportsAll 3 none 1 := ⟨q117, q2151, by decide, by decide, by decide +kernel⟩
theorem zwX5_against : zWd yX5_against cX5_against 5 (some .int) 2 := ⟨q117, q2267, by decide, by decide, by decide +kernel⟩
theorem zwX5_removes : zWd yX5_removes cX5_removes 4 none 3 := ⟨q117, q2271, by decide, by decide, by decide +kernel⟩
theorem zwX5_ratioAgrees : zWd yX5_ratioAgrees cX5_ratioAgrees 6 (some .boolean) 2 := ⟨q117, q2275, by decide, by decide, by decide +kernel⟩
theorem zwX5_round : zWd yX5_round cX5_round 5 (some .boolean) 0 := ⟨q117, q2147, by decide, by decide, by decide +kernel⟩
theorem zwX5_finds : zWd yX5_finds cX5_finds 3 none 0 := ⟨q117, q2135, by decide, by decide, by decide +kernel⟩
theorem zwX5_now : zWd yX5_now cX5_now 1 none 0 := ⟨q117, q2123, by decide, by decide, by decide +kernel⟩
theorem zwX5_isFailed : zWd yX5_isFailed cX5_isFailed 1 (some .boolean) 0 := ⟨q117, q2119, by decide, by decide, by decide +kernel⟩
theorem zwX5_asks : zWd yX5_asks cX5_asks 2 (some .boolean) 1 := ⟨q117, q2283, by decide, by decide, by decide +kernel⟩
theorem zwX5_domain : zWd yX5_domain cX5_domain 2 (some .int) 1 := ⟨q117, q2279, by decide, by decide, by decide +kernel⟩
theorem zwX5_bound : zWd yX5_bound cX5_bound 3 (some .int) 2 := ⟨q117, q2287, by decide, by decide, by decide +kernel⟩
theorem zwX5_rounds : zWd yX5_rounds cX5_rounds 1 (some .int) 0 := ⟨q117, q2291, by decide, by decide, by decide +kernel⟩
theorem zwX5_removals : zWd yX5_removals cX5_removals 1 (some .int) 0 := ⟨q117, q2295, by decide, by decide, by decide +kernel⟩
theorem zwX5_removal : zWd yX5_removal cX5_removal 3 (some .int) 2 := ⟨q117, q2299, by decide, by decide, by decide +kernel⟩
theorem zwX5_reasonOf : zWd yX5_reasonOf cX5_reasonOf 6 (some .int) 2 := ⟨q117, q2307, by decide, by decide, by decide +kernel⟩
theorem zwX5_reason : zWd yX5_reason cX5_reason 3 (some .int) 2 := ⟨q117, q2303, by decide, by decide, by decide +kernel⟩
theorem zwX5_failure : zWd yX5_failure cX5_failure 1 (some .int) 0 := ⟨q117, q2311, by decide, by decide, by decide +kernel⟩
theorem zwX5_learn : zWd yX5_learn cX5_learn 4 (some .int) 0 := ⟨q117, q2315, by decide, by decide, by decide +kernel⟩
theorem zwX5_findsNode : zWd yX5_findsNode cX5_findsNode 2 none 0 := ⟨q117, q2323, by decide, by decide, by decide +kernel⟩
theorem zwX5_goesBack : zWd yX5_goesBack cX5_goesBack 1 (some .boolean) 0 := ⟨q117, q2327, by decide, by decide, by decide +kernel⟩
theorem zwX5_isFixed : zWd yX5_isFixed cX5_isFixed 2 (some .boolean) 1 := ⟨q117, q2335, by decide, by decide, by decide +kernel⟩
theorem zwX5_isSolution : zWd yX5_isSolution cX5_isSolution 3 (some .boolean) 0 := ⟨q117, q2331, by decide, by decide, by decide +kernel⟩
theorem zwX5_keepsSolution : zWd yX5_keepsSolution cX5_keepsSolution 2 none 0 := ⟨q117, q2339, by decide, by decide, by decide +kernel⟩
theorem zwX5_chosen : zWd yX5_chosen cX5_chosen 7 (some .int) 2 := ⟨q117, q2343, by decide, by decide, by decide +kernel⟩
theorem zwX5_valueBy : zWd yX5_valueBy cX5_valueBy 3 (some .int) 2 := ⟨q117, q2347, by decide, by decide, by decide +kernel⟩
theorem zwX5_goesDown : zWd yX5_goesDown cX5_goesDown 3 none 2 := ⟨q117, q2351, by decide, by decide, by decide +kernel⟩
theorem zwX5_search : zWd yX5_search cX5_search 12 (some .int) 5 := ⟨q117, q2319, by decide, by decide, by decide +kernel⟩
theorem zwX5_nodes : zWd yX5_nodes cX5_nodes 1 (some .int) 0 := ⟨q117, q2355, by decide, by decide, by decide +kernel⟩
theorem zwX5_failures : zWd yX5_failures cX5_failures 1 (some .int) 0 := ⟨q117, q2359, by decide, by decide, by decide +kernel⟩
theorem zwX5_solution : zWd yX5_solution cX5_solution 2 (some .int) 1 := ⟨q117, q2363, by decide, by decide, by decide +kernel⟩
theorem zwX5_solutions : zWd yX5_solutions cX5_solutions 5 (some .int) 0 := ⟨q117, q2367, by decide, by decide, by decide +kernel⟩
theorem zwX5_nth : zWd yX5_nth cX5_nth 4 (some .int) 2 := ⟨q117, q2375, by decide, by decide, by decide +kernel⟩
theorem zwX5_solutionsByAll : zWd yX5_solutionsByAll cX5_solutionsByAll 8 (some .int) 0 := ⟨q117, q2371, by decide, by decide, by decide +kernel⟩
theorem zwX5_minimise : zWd yX5_minimise cX5_minimise 8 none 5 := ⟨q117, q2379, by decide, by decide, by decide +kernel⟩
theorem zwX5_steps : zWd yX5_steps cX5_steps 4 none 1 := ⟨q117, q2387, by decide, by decide, by decide +kernel⟩
theorem zwX5_goOn : zWd yX5_goOn cX5_goOn 4 (some .int) 2 := ⟨q117, q2383, by decide, by decide, by decide +kernel⟩
theorem zwX5_best : zWd yX5_best cX5_best 1 (some .int) 0 := ⟨q117, q2391, by decide, by decide, by decide +kernel⟩
theorem zwX5_addsTree : zWd yX5_addsTree cX5_addsTree 4 (some .int) 3 := ⟨q117, q2399, by decide, by decide, by decide +kernel⟩
theorem zwX5_tree : zWd yX5_tree cX5_tree 1 (some .int) 0 := ⟨q117, q2395, by decide, by decide, by decide +kernel⟩
theorem zwX5_term : zWd yX5_term cX5_term 7 (some .int) 3 := ⟨q117, q2403, by decide, by decide, by decide +kernel⟩
theorem zwX5_unify : zWd yX5_unify cX5_unify 10 (some .int) 2 := ⟨q117, q2407, by decide, by decide, by decide +kernel⟩
theorem zwX5_children : zWd yX5_children cX5_children 1 (some .int) 1 := ⟨q117, q2418, by decide, by decide, by decide +kernel⟩
theorem zwX5_childOf : zWd yX5_childOf cX5_childOf 3 (some .int) 2 := ⟨q117, q2422, by decide, by decide, by decide +kernel⟩
theorem zwX5_differ : zWd yX5_differ cX5_differ 5 (some .boolean) 2 := ⟨q117, q2415, by decide, by decide, by decide +kernel⟩
theorem zwX5_areAlike : zWd yX5_areAlike cX5_areAlike 7 (some .boolean) 2 := ⟨q117, q2411, by decide, by decide, by decide +kernel⟩
theorem zwX5_symbolAt : zWd yX5_symbolAt cX5_symbolAt 7 (some .int) 3 := ⟨q117, q2426, by decide, by decide, by decide +kernel⟩
theorem zwX5_isEndless : zWd yX5_isEndless cX5_isEndless 7 (some .boolean) 1 := ⟨q117, q2430, by decide, by decide, by decide +kernel⟩
