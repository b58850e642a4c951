/-! THE METHODS by their numbers; what the tables say of each (printed by wip gen2.py) -/
def tp_nms : List MethodName := [yJ0_fill, yJ0_copyOf, yJ0_copyOf_2, yJ0_fill_2, yJ0_rangeCheck, yJ11_init, yJ12_init, yJ13_valueOf, yJ13_init, yJ13_intValue, yJ14_newLength, yJ15_checkIndex, yJ2_init, yJ3_init, yJ4_init, yJ4_add, yJ4_add_2, yJ4_grow, yJ4_grow_2, yJ4_isEmpty, yJ4_size, yJ4_get, yJ4_elementData, yJ5_length, yJ5_coder, yJ5_charAt, yJ5_isLatin1, yJ5_checkIndex, yJ6_charAt, yJ7_checkIndex, x, yX0_cell, yX1_init, yX1_ice, yX1_isCell, yX1_in, yX1_iceAt, yX1_mark, yX1_edge, yX1_drift, yX1_isWind, yX1_chances, yX1_ship, yX1_costs, yX1_wind, yX1_feed, yX1_put, yX1_end, yX1_text, yX1_fault, yX1_by, yX1_isText, yX1_can, yX1_isOrder, yX1_costOf, yX1_dx, yX1_dy, yX1_beside, yX1_may, yX1_rules, yX1_names, yX1_costOf_2, yX1_watch, yX1_does, yX1_goes, yX1_drifts, yX1_nips, yX1_of, yX1_soonest, yX1_ship_2, yX1_laysAhead, yX1_laysSea, yX1_soonest_2, yX1_soonestBy, yX1_costAt, yX1_windAt, yX1_cellBehind, yX1_nippedAt, yX1_fires, yX1_least, yX1_ahead, yX1_many, yX1_order, yX1_told, yX1_laysPath, yX1_home, yX1_last, yX1_comesHome, yX1_walk, yX1_walkFrom, yX1_walks, yX1_leave, yX1_winter, yX1_nipsFrom, yX1_surest, yX1_surest_2, yX1_surestBy, yX1_known, yX1_leads, yX1_prior, yX1_isClass, yX1_look, yX1_think, yX1_run, yX1_isRun, yX1_runs, yX1_orderBy, yX1_runs_2, yX1_image, yX1_back, yX1_about, yX10_init, yX10_of, yX11_init, yX11_of, yX12_init, yX12_is, yX13_init, yX13_is, yX14_init, yX14_when, yX14_order, yX2_init, yX2_be, yX2_copy, yX2_copy_2, yX3_init, yX3_copyRow, yX3_ice, yX3_isCell, yX3_isIn, yX3_iceAt, yX3_mark, yX3_edge, yX3_drift, yX3_isWind, yX3_chances, yX3_ship, yX3_isShip, yX3_ofShip, yX3_costs, yX3_wind, yX3_feed, yX3_four, yX3_end, yX3_text, yX3_readText, yX3_nextToken, yX3_byteAt, yX3_isDigit, yX3_isLetter, yX3_clause, yX3_sortOf, yX3_w3, yX3_isWord, yX3_w4, yX3_goesBy, yX3_summed, yX3_goesOn, yX3_hasParen, yX3_behindOne, yX3_settle, yX3_emit, yX3_push, yX3_whole, yX3_beginOne, yX3_nameOf, yX3_w5, yX3_w6, yX3_isBarred, yX3_either, yX3_asks, yX3_compareOf, yX3_fault, yX3_by, yX3_can, yX3_isOrder, yX3_isFree, yX3_layNow, yX3_costOf, yX3_orderCost, yX3_pushed, yX3_besideBy, yX3_pushCost, yX3_nameCell, yX3_iceOf, yX3_isAny, yX3_clauses, yX3_sortAt, yX3_work, yX3_two, yX3_clip, yX3_isAsked, yX3_sumOf, yX3_watch, yX3_does, yX3_firesBehind, yX3_go, yX3_driven, yX3_floatShip, yX3_drifted, yX3_nips, yX3_of, yX3_ahead, yX3_many, yX3_soonest, yX3_findOut, yX3_look, yX3_windBefore, yX3_stateAt, yX3_bestOut, yX3_outBy, yX3_costAhead, yX3_cellAhead, yX3_shipCell, yX3_shipCoal, yX3_shipBanked, yX3_least, yX3_order, yX3_told, yX3_follow, yX3_home, yX3_last, yX3_canHome, yX3_walk, yX3_walkFrom, yX3_walkOn, yX3_walks, yX3_leave, yX3_winter, yX3_winterAt, yX3_surest, yX3_hope, yX3_isWayOut, yX3_hopeBehind, yX3_chanceOf, yX3_behind, yX3_hopeOne, yX3_hopeTwo, yX3_known, yX3_leads, yX3_prior, yX3_look_2, yX3_think, yX3_weigh, yX3_run, yX3_isText, yX3_runAll, yX3_orderBy, yX3_canRun, yX3_drawWind, yX3_runOne, yX3_runs, yX3_image, yX3_back, yX3_about, yX4_init, yX4_read, yX4_next, yX4_isLetter, yX4_isWord, yX4_isDigit, yX4_wrong, yX4_clause, yX4_either, yX4_both, yX4_ask, yX4_opens, yX4_sum, yX4_product, yX4_one, yX4_number, yX4_want, yX5_init, yX5_some, yX6_init, yX7_init, yX7_is, yX8_init, yX8_add, yX8_itself, yX8_of, yX9_init, yX9_of]
def tp_nm (k : Nat) : MethodName := tp_nms[k]?.getD x
def tp_bys : List ByteArray := [cJ0_fill, cJ0_copyOf, cJ0_copyOf_2, cJ0_fill_2, cJ0_rangeCheck, cJ11_init, cJ12_init, cJ13_valueOf, cJ13_init, cJ13_intValue, cJ14_newLength, cJ15_checkIndex, cJ2_init, cJ3_init, cJ4_init, cJ4_add, cJ4_add_2, cJ4_grow, cJ4_grow_2, cJ4_isEmpty, cJ4_size, cJ4_get, cJ4_elementData, cJ5_length, cJ5_coder, cJ5_charAt, cJ5_isLatin1, cJ5_checkIndex, cJ6_charAt, cJ7_checkIndex, cL_law, cX0_cell, cX1_init, cX1_ice, cX1_isCell, cX1_in, cX1_iceAt, cX1_mark, cX1_edge, cX1_drift, cX1_isWind, cX1_chances, cX1_ship, cX1_costs, cX1_wind, cX1_feed, cX1_put, cX1_end, cX1_text, cX1_fault, cX1_by, cX1_isText, cX1_can, cX1_isOrder, cX1_costOf, cX1_dx, cX1_dy, cX1_beside, cX1_may, cX1_rules, cX1_names, cX1_costOf_2, cX1_watch, cX1_does, cX1_goes, cX1_drifts, cX1_nips, cX1_of, cX1_soonest, cX1_ship_2, cX1_laysAhead, cX1_laysSea, cX1_soonest_2, cX1_soonestBy, cX1_costAt, cX1_windAt, cX1_cellBehind, cX1_nippedAt, cX1_fires, cX1_least, cX1_ahead, cX1_many, cX1_order, cX1_told, cX1_laysPath, cX1_home, cX1_last, cX1_comesHome, cX1_walk, cX1_walkFrom, cX1_walks, cX1_leave, cX1_winter, cX1_nipsFrom, cX1_surest, cX1_surest_2, cX1_surestBy, cX1_known, cX1_leads, cX1_prior, cX1_isClass, cX1_look, cX1_think, cX1_run, cX1_isRun, cX1_runs, cX1_orderBy, cX1_runs_2, cX1_image, cX1_back, cX1_about, cX10_init, cX10_of, cX11_init, cX11_of, cX12_init, cX12_is, cX13_init, cX13_is, cX14_init, cX14_when, cX14_order, cX2_init, cX2_be, cX2_copy, cX2_copy_2, cX3_init, cX3_copyRow, cX3_ice, cX3_isCell, cX3_isIn, cX3_iceAt, cX3_mark, cX3_edge, cX3_drift, cX3_isWind, cX3_chances, cX3_ship, cX3_isShip, cX3_ofShip, cX3_costs, cX3_wind, cX3_feed, cX3_four, cX3_end, cX3_text, cX3_readText, cX3_nextToken, cX3_byteAt, cX3_isDigit, cX3_isLetter, cX3_clause, cX3_sortOf, cX3_w3, cX3_isWord, cX3_w4, cX3_goesBy, cX3_summed, cX3_goesOn, cX3_hasParen, cX3_behindOne, cX3_settle, cX3_emit, cX3_push, cX3_whole, cX3_beginOne, cX3_nameOf, cX3_w5, cX3_w6, cX3_isBarred, cX3_either, cX3_asks, cX3_compareOf, cX3_fault, cX3_by, cX3_can, cX3_isOrder, cX3_isFree, cX3_layNow, cX3_costOf, cX3_orderCost, cX3_pushed, cX3_besideBy, cX3_pushCost, cX3_nameCell, cX3_iceOf, cX3_isAny, cX3_clauses, cX3_sortAt, cX3_work, cX3_two, cX3_clip, cX3_isAsked, cX3_sumOf, cX3_watch, cX3_does, cX3_firesBehind, cX3_go, cX3_driven, cX3_floatShip, cX3_drifted, cX3_nips, cX3_of, cX3_ahead, cX3_many, cX3_soonest, cX3_findOut, cX3_look, cX3_windBefore, cX3_stateAt, cX3_bestOut, cX3_outBy, cX3_costAhead, cX3_cellAhead, cX3_shipCell, cX3_shipCoal, cX3_shipBanked, cX3_least, cX3_order, cX3_told, cX3_follow, cX3_home, cX3_last, cX3_canHome, cX3_walk, cX3_walkFrom, cX3_walkOn, cX3_walks, cX3_leave, cX3_winter, cX3_winterAt, cX3_surest, cX3_hope, cX3_isWayOut, cX3_hopeBehind, cX3_chanceOf, cX3_behind, cX3_hopeOne, cX3_hopeTwo, cX3_known, cX3_leads, cX3_prior, cX3_look_2, cX3_think, cX3_weigh, cX3_run, cX3_isText, cX3_runAll, cX3_orderBy, cX3_canRun, cX3_drawWind, cX3_runOne, cX3_runs, cX3_image, cX3_back, cX3_about, cX4_init, cX4_read, cX4_next, cX4_isLetter, cX4_isWord, cX4_isDigit, cX4_wrong, cX4_clause, cX4_either, cX4_both, cX4_ask, cX4_opens, cX4_sum, cX4_product, cX4_one, cX4_number, cX4_want, cX5_init, cX5_some, cX6_init, cX7_init, cX7_is, cX8_init, cX8_add, cX8_itself, cX8_of, cX9_init, cX9_of]
def tp_by (k : Nat) : ByteArray := tp_bys[k]?.getD cL_law
def tp_rts : List (Option FieldType) := [none, (some (.array (.object "java/lang/Object"))), (some (.array (.object "java/lang/Object"))), none, none, none, none, (some (.object "java/lang/Integer")), none, (some .int), (some .int), (some .int), none, none, none, (some .boolean), none, (some (.array (.object "java/lang/Object"))), (some (.array (.object "java/lang/Object"))), (some .boolean), (some .int), (some (.object "java/lang/Object")), (some (.object "java/lang/Object")), (some .int), (some .byte), (some .char), (some .boolean), none, (some .char), (some .int), (some .boolean), (some .int), none, (some .boolean), (some .boolean), (some .boolean), (some .int), (some .boolean), (some .boolean), (some .boolean), (some .boolean), (some .boolean), (some .boolean), (some .boolean), (some .boolean), (some .int), none, (some .int), (some .int), (some .int), (some .boolean), (some .boolean), (some .boolean), (some .boolean), (some .int), (some .int), (some .int), (some .int), (some .boolean), (some (.object "ThroughPack$Text")), none, (some .int), (some .int), (some .boolean), none, (some .int), (some .boolean), (some .int), (some .int), (some (.array .int)), none, none, (some .int), (some .int), (some .int), (some .int), (some .int), (some .boolean), (some .int), (some .int), (some .int), (some .boolean), (some .int), (some .int), none, (some .boolean), (some .int), (some .boolean), (some .int), (some .int), (some .boolean), (some .int), (some .int), (some .int), (some .int), (some .int), (some .int), (some .int), (some .int), (some .boolean), (some .boolean), (some .int), (some .int), (some .int), (some .boolean), none, (some .int), (some .int), (some .int), (some .int), (some .int), none, (some .long), none, (some .long), none, (some .boolean), none, (some .boolean), none, (some (.object "ThroughPack$Asked")), (some .int), none, none, none, none, none, none, (some .boolean), (some .boolean), (some .boolean), (some .int), (some .boolean), (some .boolean), (some .boolean), (some .boolean), (some .boolean), (some .boolean), (some .boolean), (some .int), (some .boolean), (some .boolean), (some .int), none, (some .int), (some .int), (some .int), none, (some .int), (some .boolean), (some .boolean), (some .int), (some .int), (some .long), (some .boolean), (some .long), (some .int), (some .int), (some .boolean), (some .boolean), (some .int), none, none, none, none, (some .int), (some .int), (some .long), (some .long), (some .boolean), (some .int), (some .int), (some .int), (some .int), (some .boolean), (some .boolean), (some .boolean), (some .boolean), none, (some .int), (some .int), (some .int), (some .int), (some .int), none, (some .int), (some .boolean), (some .int), (some .int), none, (some .long), (some .long), (some .boolean), (some .int), (some .int), (some .boolean), (some .int), none, (some .int), none, (some .int), (some .boolean), (some .int), (some .int), (some .boolean), (some .int), none, none, (some .int), (some .int), (some .int), (some .int), (some .int), (some .int), (some .int), (some .int), (some .int), (some .int), (some .int), (some .int), none, (some .boolean), (some .int), (some .boolean), (some .int), (some .int), none, (some .boolean), (some .int), (some .int), (some .int), (some .int), (some .int), (some .boolean), (some .int), (some .int), (some .int), (some .int), (some .int), (some .int), (some .int), (some .boolean), (some .int), (some .int), (some .long), (some .int), (some .boolean), none, (some .int), (some .boolean), (some .int), none, (some .int), (some .int), (some .int), (some .int), none, (some (.object "ThroughPack$Text")), none, (some .boolean), (some .boolean), (some .boolean), (some (.object "ThroughPack$Wrong")), none, (some (.object "ThroughPack$Asked")), (some (.object "ThroughPack$Asked")), (some (.object "ThroughPack$Asked")), none, (some (.object "ThroughPack$Sum")), (some (.object "ThroughPack$Sum")), (some (.object "ThroughPack$Sum")), (some .int), none, none, (some .boolean), none, none, (some .boolean), none, none, (some (.object "ThroughPack$Sum")), (some .long), none, (some .long)]
def tp_rtt (k : Nat) : Option FieldType := tp_rts[k]?.getD none
/-- what the small interpreter keeps as statics and constants -/
def tp_Stat (X : tp_X) : Prop := (∃ q, va_Mi "[Ljava/lang/Object;" q (xs0 X) ∧ xG X 0 = xR q) ∧ tp_Zs X "java/lang/Integer$IntegerCache" "high" "I" 1 ∧ tp_Zs X "java/lang/Integer$IntegerCache" "cache" "[Ljava/lang/Integer;" 2 ∧ tp_Zs X "java/util/ArrayList" "DEFAULTCAPACITY_EMPTY_ELEMENTDATA" "[Ljava/lang/Object;" 3 ∧ tp_Zs X "java/lang/String" "COMPACT_STRINGS" "Z" 4 ∧ tp_Zs X "ThroughPack$Tokens" "WORDS" "[Ljava/lang/String;" 5 ∧ tp_Zs X "ThroughPack" "TENS" "[I" 6 ∧ (∃ q, vk_R "ThroughPack$Tokens" 53 "<>=#+-*/();" q (xs0 X) ∧ xG X 7 = xR q) ∧ tp_Zs X "jdk/internal/util/Preconditions" "SIOOBE_FORMATTER" "Ljava/util/function/BiFunction;" 8 ∧ tp_Zr X Bundle.tN "UNASSIGNED_STACK" Bundle.steD 9 ∧ tp_Zr X Bundle.tN "SUPPRESSED_SENTINEL" Bundle.listD 10
theorem hc_1 : tp_cl[1]? = some (RX1, TX1, 23) := rfl
theorem hc_2 : tp_cl[2]? = some (RX2, TX2, 13) := rfl
theorem hc_3 : tp_cl[3]? = some (RX3, TX3, 47) := rfl
theorem hc_4 : tp_cl[4]? = some (RX4, TX4, 8) := rfl
theorem hc_5 : tp_cl[5]? = some (RX5, TX5, 7) := rfl
theorem hc_6 : tp_cl[6]? = some (RX6, TX6, 8) := rfl
theorem hc_7 : tp_cl[7]? = some (RX7, TX7, 1) := rfl
theorem hc_8 : tp_cl[8]? = some (RX8, TX8, 3) := rfl
theorem hc_9 : tp_cl[9]? = some (RX9, TX9, 1) := rfl
theorem hc_10 : tp_cl[10]? = some (RX10, TX10, 1) := rfl
theorem hc_11 : tp_cl[11]? = some (RX11, TX11, 1) := rfl
theorem hc_12 : tp_cl[12]? = some (RX12, TX12, 3) := rfl
theorem hc_13 : tp_cl[13]? = some (RX13, TX13, 2) := rfl
theorem hc_14 : tp_cl[14]? = some (RX14, TX14, 2) := rfl
theorem hc_15 : tp_cl[15]? = some (RJ4, TJ4, 3) := rfl
theorem hc_16 : tp_cl[16]? = some (RJ13, TJ13, 1) := rfl
theorem df_X1 : ∀ k, k < 23 → tp_RV (tp_lf [xN, xN, xI 0, xI 0, xI 0, xN, xI 0, xI 0, xI 0, xN, xN, xI 0, xN, xN, xN, xN, xI 0, xN, xN, xN, xN, xN, xN] k) (defaultValue (tyX1 k))
  | 0, _ => rfl
  | 1, _ => rfl
  | 2, _ => ⟨0, rfl, rfl⟩
  | 3, _ => ⟨0, rfl, rfl⟩
  | 4, _ => ⟨0, rfl, rfl⟩
  | 5, _ => rfl
  | 6, _ => ⟨0, rfl, rfl⟩
  | 7, _ => ⟨0, rfl, rfl⟩
  | 8, _ => ⟨0, rfl, rfl⟩
  | 9, _ => rfl
  | 10, _ => rfl
  | 11, _ => ⟨0, rfl, rfl⟩
  | 12, _ => rfl
  | 13, _ => rfl
  | 14, _ => rfl
  | 15, _ => rfl
  | 16, _ => ⟨0, rfl, rfl⟩
  | 17, _ => rfl
  | 18, _ => rfl
  | 19, _ => rfl
  | 20, _ => rfl
  | 21, _ => rfl
  | 22, _ => rfl
  | n + 23, h => absurd h (by omega)
theorem df_X2 : ∀ k, k < 13 → tp_RV (tp_lf [xN, xN, xN, xN, xN, xN, xN, xN, xN, xN, xN, xN, xN] k) (defaultValue (tyX2 k))
  | 0, _ => rfl
  | 1, _ => rfl
  | 2, _ => rfl
  | 3, _ => rfl
  | 4, _ => rfl
  | 5, _ => rfl
  | 6, _ => rfl
  | 7, _ => rfl
  | 8, _ => rfl
  | 9, _ => rfl
  | 10, _ => rfl
  | 11, _ => rfl
  | 12, _ => rfl
  | n + 13, h => absurd h (by omega)
theorem df_X3 : ∀ k, k < 47 → tp_RV (tp_lf [xI 0, xI 0, xI 0, xN, xN, xN, xN, xI 0, xI 0, xI 0, xI 0, xI 0, xI 0, xI 0, xJ 0, xI 0, xI 0, xI 0, xI 0, xN, xI 0, xI 0, xI 0, xI 0, xI 0, xN, xN, xN, xN, xN, xN, xN, xI 0, xN, xN, xN, xN, xN, xN, xI 0, xN, xI 0, xI 0, xI 0, xI 0, xI 0, xI 0] k) (defaultValue (tyX3 k))
  | 0, _ => ⟨0, rfl, rfl⟩
  | 1, _ => ⟨0, rfl, rfl⟩
  | 2, _ => ⟨0, rfl, rfl⟩
  | 3, _ => rfl
  | 4, _ => rfl
  | 5, _ => rfl
  | 6, _ => rfl
  | 7, _ => ⟨0, rfl, rfl⟩
  | 8, _ => ⟨0, rfl, rfl⟩
  | 9, _ => ⟨0, rfl, rfl⟩
  | 10, _ => ⟨0, rfl, rfl⟩
  | 11, _ => ⟨0, rfl, rfl⟩
  | 12, _ => ⟨0, rfl, rfl⟩
  | 13, _ => ⟨0, rfl, rfl⟩
  | 14, _ => ⟨0, rfl, rfl⟩
  | 15, _ => ⟨0, rfl, rfl⟩
  | 16, _ => ⟨0, rfl, rfl⟩
  | 17, _ => ⟨0, rfl, rfl⟩
  | 18, _ => ⟨0, rfl, rfl⟩
  | 19, _ => rfl
  | 20, _ => ⟨0, rfl, rfl⟩
  | 21, _ => ⟨0, rfl, rfl⟩
  | 22, _ => ⟨0, rfl, rfl⟩
  | 23, _ => ⟨0, rfl, rfl⟩
  | 24, _ => ⟨0, rfl, rfl⟩
  | 25, _ => rfl
  | 26, _ => rfl
  | 27, _ => rfl
  | 28, _ => rfl
  | 29, _ => rfl
  | 30, _ => rfl
  | 31, _ => rfl
  | 32, _ => ⟨0, rfl, rfl⟩
  | 33, _ => rfl
  | 34, _ => rfl
  | 35, _ => rfl
  | 36, _ => rfl
  | 37, _ => rfl
  | 38, _ => rfl
  | 39, _ => ⟨0, rfl, rfl⟩
  | 40, _ => rfl
  | 41, _ => ⟨0, rfl, rfl⟩
  | 42, _ => ⟨0, rfl, rfl⟩
  | 43, _ => ⟨0, rfl, rfl⟩
  | 44, _ => ⟨0, rfl, rfl⟩
  | 45, _ => ⟨0, rfl, rfl⟩
  | 46, _ => ⟨0, rfl, rfl⟩
  | n + 47, h => absurd h (by omega)
theorem df_X4 : ∀ k, k < 8 → tp_RV (tp_lf [xN, xI 0, xI 0, xI 0, xI 0, xI 0, xI 0, xI 0] k) (defaultValue (tyX4 k))
  | 0, _ => rfl
  | 1, _ => ⟨0, rfl, rfl⟩
  | 2, _ => ⟨0, rfl, rfl⟩
  | 3, _ => ⟨0, rfl, rfl⟩
  | 4, _ => ⟨0, rfl, rfl⟩
  | 5, _ => ⟨0, rfl, rfl⟩
  | 6, _ => ⟨0, rfl, rfl⟩
  | 7, _ => ⟨0, rfl, rfl⟩
  | n + 8, h => absurd h (by omega)
theorem df_X5 : ∀ k, k < 7 → tp_RV (tp_lf [xN, xN, xN, xN, xN, xN, xI 0] k) (defaultValue (tyX5 k))
  | 0, _ => rfl
  | 1, _ => rfl
  | 2, _ => rfl
  | 3, _ => rfl
  | 4, _ => rfl
  | 5, _ => rfl
  | 6, _ => ⟨0, rfl, rfl⟩
  | n + 7, h => absurd h (by omega)
theorem df_X6 : ∀ k, k < 8 → tp_RV (tp_lf [xN, xN, xN, xN, xN, xI 0, xI 0, xI 0] k) (defaultValue (tyX6 k))
  | 0, _ => rfl
  | 1, _ => rfl
  | 2, _ => rfl
  | 3, _ => rfl
  | 4, _ => rfl
  | 5, _ => ⟨0, rfl, rfl⟩
  | 6, _ => ⟨0, rfl, rfl⟩
  | 7, _ => ⟨0, rfl, rfl⟩
  | n + 8, h => absurd h (by omega)
theorem df_X7 : ∀ k, k < 1 → tp_RV (tp_lf [xN] k) (defaultValue (tyX7 k))
  | 0, _ => rfl
  | n + 1, h => absurd h (by omega)
theorem df_X8 : ∀ k, k < 3 → tp_RV (tp_lf [xN, xN, xN] k) (defaultValue (tyX8 k))
  | 0, _ => rfl
  | 1, _ => rfl
  | 2, _ => rfl
  | n + 3, h => absurd h (by omega)
theorem df_X9 : ∀ k, k < 1 → tp_RV (tp_lf [xI 0] k) (defaultValue (tyX9 k))
  | 0, _ => ⟨0, rfl, rfl⟩
  | n + 1, h => absurd h (by omega)
theorem df_X10 : ∀ k, k < 1 → tp_RV (tp_lf [xI 0] k) (defaultValue (tyX10 k))
  | 0, _ => ⟨0, rfl, rfl⟩
  | n + 1, h => absurd h (by omega)
theorem df_X11 : ∀ k, k < 1 → tp_RV (tp_lf [xN] k) (defaultValue (tyX11 k))
  | 0, _ => rfl
  | n + 1, h => absurd h (by omega)
theorem df_X12 : ∀ k, k < 3 → tp_RV (tp_lf [xI 0, xN, xN] k) (defaultValue (tyX12 k))
  | 0, _ => ⟨0, rfl, rfl⟩
  | 1, _ => rfl
  | 2, _ => rfl
  | n + 3, h => absurd h (by omega)
theorem df_X13 : ∀ k, k < 2 → tp_RV (tp_lf [xI 0, xN] k) (defaultValue (tyX13 k))
  | 0, _ => ⟨0, rfl, rfl⟩
  | 1, _ => rfl
  | n + 2, h => absurd h (by omega)
theorem df_X14 : ∀ k, k < 2 → tp_RV (tp_lf [xI 0, xN] k) (defaultValue (tyX14 k))
  | 0, _ => ⟨0, rfl, rfl⟩
  | 1, _ => rfl
  | n + 2, h => absurd h (by omega)
theorem df_J4 : ∀ k, k < 3 → tp_RV (tp_lf [xI 0, xN, xI 0] k) (defaultValue (tyJ4 k))
  | 0, _ => ⟨0, rfl, rfl⟩
  | 1, _ => rfl
  | 2, _ => ⟨0, rfl, rfl⟩
  | n + 3, h => absurd h (by omega)
theorem df_J13 : ∀ k, k < 1 → tp_RV (tp_lf [xI 0] k) (defaultValue (tyJ13 k))
  | 0, _ => ⟨0, rfl, rfl⟩
  | n + 1, h => absurd h (by omega)
theorem tp_len {y : MethodName} {n : Nat} (h : (parseMethodDescriptor y.desc).map (fun d => d.parameters.length) = some n) : ∀ sig, parseMethodDescriptor y.desc = some sig → sig.parameters.length = n := by
  intro sig hs
  rw [hs] at h
  simpa using h
section FitH
variable {X : tp_X} {own : MethodName} {cc : ByteArray} {ret : Option FieldType} {nL : Nat} {nm : Nat → MethodName} {by_ : Nat → ByteArray} {ml : Nat → Nat} {rt : Nat → Option FieldType}
theorem fG {pc len : Nat} {op : tp_Op} {is : List tp_Op} (h1 : tp_Mo op) (h2 : tp_Sim X own cc ret nL pc len op) (h3 : tp_Fit X own cc ret nL nm by_ ml rt (pc + len) is) : tp_Fit X own cc ret nL nm by_ ml rt pc (op :: is) := Or.inr (Or.inl ⟨len, ⟨h1, h2⟩, h3⟩)
theorem fE {pc : Nat} {op : tp_Op} {is : List tp_Op} (h1 : tp_isE op) (h2 : tp_SimE X own cc ret nL pc op) : tp_Fit X own cc ret nL nm by_ ml rt pc (op :: is) := Or.inr (Or.inr (Or.inl ⟨h1, h2⟩))
theorem fC {pc len : Nat} {op : tp_Op} {is : List tp_Op} (h1 : tp_isC own pc op) (h2 : tp_SimC X own cc ret nL pc len op nm by_ ml rt) (h3 : tp_Fit X own cc ret nL nm by_ ml rt (pc + len) is) : tp_Fit X own cc ret nL nm by_ ml rt pc (op :: is) := Or.inr (Or.inr (Or.inr (Or.inl ⟨len, ⟨h1, h2⟩, h3⟩)))
theorem fD {pc : Nat} {i : Instr} {is : List tp_Op} : tp_Fit X own cc ret nL nm by_ ml rt pc (o_dead i :: is) := Or.inr (Or.inr (Or.inr (Or.inr (fun _ _ _ => rfl))))
theorem fF {pc : Nat} {is : List tp_Op} : tp_Fit X own cc ret nL nm by_ ml rt pc (o_fall pc :: is) := Or.inl rfl
theorem fI {pc a : Nat} {is e : List tp_Op} (h : tp_Fit X own cc ret nL nm by_ ml rt a is) (he : tp_Fit X own cc ret nL nm by_ ml rt pc e) : tp_Fit X own cc ret nL nm by_ ml rt pc (if pc = a then is else e) := by
  by_cases q : pc = a
  · rw [if_pos q, q]; exact h
  · rw [if_neg q]; exact he
end FitH
theorem nm_J0_fill : tp_nm kJ0_fill = yJ0_fill := rfl
theorem by_J0_fill : tp_by kJ0_fill = cJ0_fill := rfl
theorem rt_J0_fill : tp_rtt kJ0_fill = none := rfl
theorem N_J0_fill : tp_Mk yJ0_fill cJ0_fill 4 none 2 := ⟨q177, q127, by decide +kernel, tp_len (by decide +kernel), by decide, by decide +kernel⟩
theorem M_J0_fill : tp_Mk (tp_nm kJ0_fill) (tp_by kJ0_fill) (tp_ml kJ0_fill) (tp_rtt kJ0_fill) 2 := by rw [nm_J0_fill, by_J0_fill, lJ0_fill, rt_J0_fill]; exact N_J0_fill
theorem nm_J0_copyOf : tp_nm kJ0_copyOf = yJ0_copyOf := rfl
theorem by_J0_copyOf : tp_by kJ0_copyOf = cJ0_copyOf := rfl
theorem rt_J0_copyOf : tp_rtt kJ0_copyOf = (some (.array (.object "java/lang/Object"))) := rfl
theorem N_J0_copyOf : tp_Mk yJ0_copyOf cJ0_copyOf 2 (some (.array (.object "java/lang/Object"))) 2 := ⟨q778, q127, by decide +kernel, tp_len (by decide +kernel), by decide, by decide +kernel⟩
theorem M_J0_copyOf : tp_Mk (tp_nm kJ0_copyOf) (tp_by kJ0_copyOf) (tp_ml kJ0_copyOf) (tp_rtt kJ0_copyOf) 2 := by rw [nm_J0_copyOf, by_J0_copyOf, lJ0_copyOf, rt_J0_copyOf]; exact N_J0_copyOf
theorem nm_J0_copyOf_2 : tp_nm kJ0_copyOf_2 = yJ0_copyOf_2 := rfl
theorem by_J0_copyOf_2 : tp_by kJ0_copyOf_2 = cJ0_copyOf_2 := rfl
theorem rt_J0_copyOf_2 : tp_rtt kJ0_copyOf_2 = (some (.array (.object "java/lang/Object"))) := rfl
theorem N_J0_copyOf_2 : tp_Mk yJ0_copyOf_2 cJ0_copyOf_2 4 (some (.array (.object "java/lang/Object"))) 3 := ⟨q801, q127, by decide +kernel, tp_len (by decide +kernel), by decide, by decide +kernel⟩
theorem M_J0_copyOf_2 : tp_Mk (tp_nm kJ0_copyOf_2) (tp_by kJ0_copyOf_2) (tp_ml kJ0_copyOf_2) (tp_rtt kJ0_copyOf_2) 3 := by rw [nm_J0_copyOf_2, by_J0_copyOf_2, lJ0_copyOf_2, rt_J0_copyOf_2]; exact N_J0_copyOf_2
theorem nm_J0_fill_2 : tp_nm kJ0_fill_2 = yJ0_fill_2 := rfl
theorem by_J0_fill_2 : tp_by kJ0_fill_2 = cJ0_fill_2 := rfl
theorem rt_J0_fill_2 : tp_rtt kJ0_fill_2 = none := rfl
theorem N_J0_fill_2 : tp_Mk yJ0_fill_2 cJ0_fill_2 5 none 4 := ⟨q1165, q127, by decide +kernel, tp_len (by decide +kernel), by decide, by decide +kernel⟩
theorem M_J0_fill_2 : tp_Mk (tp_nm kJ0_fill_2) (tp_by kJ0_fill_2) (tp_ml kJ0_fill_2) (tp_rtt kJ0_fill_2) 4 := by rw [nm_J0_fill_2, by_J0_fill_2, lJ0_fill_2, rt_J0_fill_2]; exact N_J0_fill_2
theorem nm_J0_rangeCheck : tp_nm kJ0_rangeCheck = yJ0_rangeCheck := rfl
theorem by_J0_rangeCheck : tp_by kJ0_rangeCheck = cJ0_rangeCheck := rfl
theorem rt_J0_rangeCheck : tp_rtt kJ0_rangeCheck = none := rfl
theorem N_J0_rangeCheck : tp_Mk yJ0_rangeCheck cJ0_rangeCheck 3 none 3 := ⟨q1168, q127, by decide +kernel, tp_len (by decide +kernel), by decide, by decide +kernel⟩
theorem M_J0_rangeCheck : tp_Mk (tp_nm kJ0_rangeCheck) (tp_by kJ0_rangeCheck) (tp_ml kJ0_rangeCheck) (tp_rtt kJ0_rangeCheck) 3 := by rw [nm_J0_rangeCheck, by_J0_rangeCheck, lJ0_rangeCheck, rt_J0_rangeCheck]; exact N_J0_rangeCheck
theorem nm_J11_init : tp_nm kJ11_init = yJ11_init := rfl
theorem by_J11_init : tp_by kJ11_init = cJ11_init := rfl
theorem rt_J11_init : tp_rtt kJ11_init = none := rfl
theorem N_J11_init : tp_Mk yJ11_init cJ11_init 1 none 0 := ⟨q654, q143, by decide +kernel, tp_len (by decide +kernel), by decide, by decide +kernel⟩
theorem M_J11_init : tp_Mk (tp_nm kJ11_init) (tp_by kJ11_init) (tp_ml kJ11_init) (tp_rtt kJ11_init) 0 := by rw [nm_J11_init, by_J11_init, lJ11_init, rt_J11_init]; exact N_J11_init
theorem nm_J12_init : tp_nm kJ12_init = yJ12_init := rfl
theorem by_J12_init : tp_by kJ12_init = cJ12_init := rfl
theorem rt_J12_init : tp_rtt kJ12_init = none := rfl
theorem N_J12_init : tp_Mk yJ12_init cJ12_init 1 none 0 := ⟨q746, q149, by decide +kernel, tp_len (by decide +kernel), by decide, by decide +kernel⟩
theorem M_J12_init : tp_Mk (tp_nm kJ12_init) (tp_by kJ12_init) (tp_ml kJ12_init) (tp_rtt kJ12_init) 0 := by rw [nm_J12_init, by_J12_init, lJ12_init, rt_J12_init]; exact N_J12_init
theorem nm_J13_valueOf : tp_nm kJ13_valueOf = yJ13_valueOf := rfl
theorem by_J13_valueOf : tp_by kJ13_valueOf = cJ13_valueOf := rfl
theorem rt_J13_valueOf : tp_rtt kJ13_valueOf = (some (.object "java/lang/Integer")) := rfl
theorem N_J13_valueOf : tp_Mk yJ13_valueOf cJ13_valueOf 1 (some (.object "java/lang/Integer")) 1 := ⟨q734, q150, by decide +kernel, tp_len (by decide +kernel), by decide, by decide +kernel⟩
theorem M_J13_valueOf : tp_Mk (tp_nm kJ13_valueOf) (tp_by kJ13_valueOf) (tp_ml kJ13_valueOf) (tp_rtt kJ13_valueOf) 1 := by rw [nm_J13_valueOf, by_J13_valueOf, lJ13_valueOf, rt_J13_valueOf]; exact N_J13_valueOf
theorem nm_J13_init : tp_nm kJ13_init = yJ13_init := rfl
theorem by_J13_init : tp_by kJ13_init = cJ13_init := rfl
theorem rt_J13_init : tp_rtt kJ13_init = none := rfl
theorem N_J13_init : tp_Mk yJ13_init cJ13_init 2 none 1 := ⟨q743, q150, by decide +kernel, tp_len (by decide +kernel), by decide, by decide +kernel⟩
theorem M_J13_init : tp_Mk (tp_nm kJ13_init) (tp_by kJ13_init) (tp_ml kJ13_init) (tp_rtt kJ13_init) 1 := by rw [nm_J13_init, by_J13_init, lJ13_init, rt_J13_init]; exact N_J13_init
theorem nm_J13_intValue : tp_nm kJ13_intValue = yJ13_intValue := rfl
theorem by_J13_intValue : tp_by kJ13_intValue = cJ13_intValue := rfl
theorem rt_J13_intValue : tp_rtt kJ13_intValue = (some .int) := rfl
theorem N_J13_intValue : tp_Mk yJ13_intValue cJ13_intValue 1 (some .int) 0 := ⟨q989, q150, by decide +kernel, tp_len (by decide +kernel), by decide, by decide +kernel⟩
theorem M_J13_intValue : tp_Mk (tp_nm kJ13_intValue) (tp_by kJ13_intValue) (tp_ml kJ13_intValue) (tp_rtt kJ13_intValue) 0 := by rw [nm_J13_intValue, by_J13_intValue, lJ13_intValue, rt_J13_intValue]; exact N_J13_intValue
theorem nm_J14_newLength : tp_nm kJ14_newLength = yJ14_newLength := rfl
theorem by_J14_newLength : tp_by kJ14_newLength = cJ14_newLength := rfl
theorem rt_J14_newLength : tp_rtt kJ14_newLength = (some .int) := rfl
theorem N_J14_newLength : tp_Mk yJ14_newLength cJ14_newLength 4 (some .int) 3 := ⟨q770, q152, by decide +kernel, tp_len (by decide +kernel), by decide, by decide +kernel⟩
theorem M_J14_newLength : tp_Mk (tp_nm kJ14_newLength) (tp_by kJ14_newLength) (tp_ml kJ14_newLength) (tp_rtt kJ14_newLength) 3 := by rw [nm_J14_newLength, by_J14_newLength, lJ14_newLength, rt_J14_newLength]; exact N_J14_newLength
theorem nm_J15_checkIndex : tp_nm kJ15_checkIndex = yJ15_checkIndex := rfl
theorem by_J15_checkIndex : tp_by kJ15_checkIndex = cJ15_checkIndex := rfl
theorem rt_J15_checkIndex : tp_rtt kJ15_checkIndex = (some .int) := rfl
theorem N_J15_checkIndex : tp_Mk yJ15_checkIndex cJ15_checkIndex 2 (some .int) 2 := ⟨q844, q154, by decide +kernel, tp_len (by decide +kernel), by decide, by decide +kernel⟩
theorem M_J15_checkIndex : tp_Mk (tp_nm kJ15_checkIndex) (tp_by kJ15_checkIndex) (tp_ml kJ15_checkIndex) (tp_rtt kJ15_checkIndex) 2 := by rw [nm_J15_checkIndex, by_J15_checkIndex, lJ15_checkIndex, rt_J15_checkIndex]; exact N_J15_checkIndex
theorem nm_J2_init : tp_nm kJ2_init = yJ2_init := rfl
theorem by_J2_init : tp_by kJ2_init = cJ2_init := rfl
theorem rt_J2_init : tp_rtt kJ2_init = none := rfl
theorem N_J2_init : tp_Mk yJ2_init cJ2_init 1 none 0 := ⟨q442, q133, by decide +kernel, tp_len (by decide +kernel), by decide, by decide +kernel⟩
theorem M_J2_init : tp_Mk (tp_nm kJ2_init) (tp_by kJ2_init) (tp_ml kJ2_init) (tp_rtt kJ2_init) 0 := by rw [nm_J2_init, by_J2_init, lJ2_init, rt_J2_init]; exact N_J2_init
theorem nm_J3_init : tp_nm kJ3_init = yJ3_init := rfl
theorem by_J3_init : tp_by kJ3_init = cJ3_init := rfl
theorem rt_J3_init : tp_rtt kJ3_init = none := rfl
theorem N_J3_init : tp_Mk yJ3_init cJ3_init 1 none 0 := ⟨q439, q134, by decide +kernel, tp_len (by decide +kernel), by decide, by decide +kernel⟩
theorem M_J3_init : tp_Mk (tp_nm kJ3_init) (tp_by kJ3_init) (tp_ml kJ3_init) (tp_rtt kJ3_init) 0 := by rw [nm_J3_init, by_J3_init, lJ3_init, rt_J3_init]; exact N_J3_init
theorem nm_J4_init : tp_nm kJ4_init = yJ4_init := rfl
theorem by_J4_init : tp_by kJ4_init = cJ4_init := rfl
theorem rt_J4_init : tp_rtt kJ4_init = none := rfl
theorem N_J4_init : tp_Mk yJ4_init cJ4_init 1 none 0 := ⟨q436, q135, by decide +kernel, tp_len (by decide +kernel), by decide, by decide +kernel⟩
theorem M_J4_init : tp_Mk (tp_nm kJ4_init) (tp_by kJ4_init) (tp_ml kJ4_init) (tp_rtt kJ4_init) 0 := by rw [nm_J4_init, by_J4_init, lJ4_init, rt_J4_init]; exact N_J4_init
theorem nm_J4_add : tp_nm kJ4_add = yJ4_add := rfl
theorem by_J4_add : tp_by kJ4_add = cJ4_add := rfl
theorem rt_J4_add : tp_rtt kJ4_add = (some .boolean) := rfl
theorem N_J4_add : tp_Mk yJ4_add cJ4_add 2 (some .boolean) 1 := ⟨q755, q135, by decide +kernel, tp_len (by decide +kernel), by decide, by decide +kernel⟩
theorem M_J4_add : tp_Mk (tp_nm kJ4_add) (tp_by kJ4_add) (tp_ml kJ4_add) (tp_rtt kJ4_add) 1 := by rw [nm_J4_add, by_J4_add, lJ4_add, rt_J4_add]; exact N_J4_add
theorem nm_J4_add_2 : tp_nm kJ4_add_2 = yJ4_add_2 := rfl
theorem by_J4_add_2 : tp_by kJ4_add_2 = cJ4_add_2 := rfl
theorem rt_J4_add_2 : tp_rtt kJ4_add_2 = none := rfl
theorem N_J4_add_2 : tp_Mk yJ4_add_2 cJ4_add_2 4 none 3 := ⟨q759, q135, by decide +kernel, tp_len (by decide +kernel), by decide, by decide +kernel⟩
theorem M_J4_add_2 : tp_Mk (tp_nm kJ4_add_2) (tp_by kJ4_add_2) (tp_ml kJ4_add_2) (tp_rtt kJ4_add_2) 3 := by rw [nm_J4_add_2, by_J4_add_2, lJ4_add_2, rt_J4_add_2]; exact N_J4_add_2
theorem nm_J4_grow : tp_nm kJ4_grow = yJ4_grow := rfl
theorem by_J4_grow : tp_by kJ4_grow = cJ4_grow := rfl
theorem rt_J4_grow : tp_rtt kJ4_grow = (some (.array (.object "java/lang/Object"))) := rfl
theorem N_J4_grow : tp_Mk yJ4_grow cJ4_grow 1 (some (.array (.object "java/lang/Object"))) 0 := ⟨q763, q135, by decide +kernel, tp_len (by decide +kernel), by decide, by decide +kernel⟩
theorem M_J4_grow : tp_Mk (tp_nm kJ4_grow) (tp_by kJ4_grow) (tp_ml kJ4_grow) (tp_rtt kJ4_grow) 0 := by rw [nm_J4_grow, by_J4_grow, lJ4_grow, rt_J4_grow]; exact N_J4_grow
theorem nm_J4_grow_2 : tp_nm kJ4_grow_2 = yJ4_grow_2 := rfl
theorem by_J4_grow_2 : tp_by kJ4_grow_2 = cJ4_grow_2 := rfl
theorem rt_J4_grow_2 : tp_rtt kJ4_grow_2 = (some (.array (.object "java/lang/Object"))) := rfl
theorem N_J4_grow_2 : tp_Mk yJ4_grow_2 cJ4_grow_2 4 (some (.array (.object "java/lang/Object"))) 1 := ⟨q767, q135, by decide +kernel, tp_len (by decide +kernel), by decide, by decide +kernel⟩
theorem M_J4_grow_2 : tp_Mk (tp_nm kJ4_grow_2) (tp_by kJ4_grow_2) (tp_ml kJ4_grow_2) (tp_rtt kJ4_grow_2) 1 := by rw [nm_J4_grow_2, by_J4_grow_2, lJ4_grow_2, rt_J4_grow_2]; exact N_J4_grow_2
theorem nm_J4_isEmpty : tp_nm kJ4_isEmpty = yJ4_isEmpty := rfl
theorem by_J4_isEmpty : tp_by kJ4_isEmpty = cJ4_isEmpty := rfl
theorem rt_J4_isEmpty : tp_rtt kJ4_isEmpty = (some .boolean) := rfl
theorem N_J4_isEmpty : tp_Mk yJ4_isEmpty cJ4_isEmpty 1 (some .boolean) 0 := ⟨q816, q135, by decide +kernel, tp_len (by decide +kernel), by decide, by decide +kernel⟩
theorem M_J4_isEmpty : tp_Mk (tp_nm kJ4_isEmpty) (tp_by kJ4_isEmpty) (tp_ml kJ4_isEmpty) (tp_rtt kJ4_isEmpty) 0 := by rw [nm_J4_isEmpty, by_J4_isEmpty, lJ4_isEmpty, rt_J4_isEmpty]; exact N_J4_isEmpty
theorem nm_J4_size : tp_nm kJ4_size = yJ4_size := rfl
theorem by_J4_size : tp_by kJ4_size = cJ4_size := rfl
theorem rt_J4_size : tp_rtt kJ4_size = (some .int) := rfl
theorem N_J4_size : tp_Mk yJ4_size cJ4_size 1 (some .int) 0 := ⟨q837, q135, by decide +kernel, tp_len (by decide +kernel), by decide, by decide +kernel⟩
theorem M_J4_size : tp_Mk (tp_nm kJ4_size) (tp_by kJ4_size) (tp_ml kJ4_size) (tp_rtt kJ4_size) 0 := by rw [nm_J4_size, by_J4_size, lJ4_size, rt_J4_size]; exact N_J4_size
theorem nm_J4_get : tp_nm kJ4_get = yJ4_get := rfl
theorem by_J4_get : tp_by kJ4_get = cJ4_get := rfl
theorem rt_J4_get : tp_rtt kJ4_get = (some (.object "java/lang/Object")) := rfl
theorem N_J4_get : tp_Mk yJ4_get cJ4_get 2 (some (.object "java/lang/Object")) 1 := ⟨q841, q135, by decide +kernel, tp_len (by decide +kernel), by decide, by decide +kernel⟩
theorem M_J4_get : tp_Mk (tp_nm kJ4_get) (tp_by kJ4_get) (tp_ml kJ4_get) (tp_rtt kJ4_get) 1 := by rw [nm_J4_get, by_J4_get, lJ4_get, rt_J4_get]; exact N_J4_get
theorem nm_J4_elementData : tp_nm kJ4_elementData = yJ4_elementData := rfl
theorem by_J4_elementData : tp_by kJ4_elementData = cJ4_elementData := rfl
theorem rt_J4_elementData : tp_rtt kJ4_elementData = (some (.object "java/lang/Object")) := rfl
theorem N_J4_elementData : tp_Mk yJ4_elementData cJ4_elementData 2 (some (.object "java/lang/Object")) 1 := ⟨q849, q135, by decide +kernel, tp_len (by decide +kernel), by decide, by decide +kernel⟩
theorem M_J4_elementData : tp_Mk (tp_nm kJ4_elementData) (tp_by kJ4_elementData) (tp_ml kJ4_elementData) (tp_rtt kJ4_elementData) 1 := by rw [nm_J4_elementData, by_J4_elementData, lJ4_elementData, rt_J4_elementData]; exact N_J4_elementData
theorem nm_J5_length : tp_nm kJ5_length = yJ5_length := rfl
theorem by_J5_length : tp_by kJ5_length = cJ5_length := rfl
theorem rt_J5_length : tp_rtt kJ5_length = (some .int) := rfl
theorem N_J5_length : tp_Mk yJ5_length cJ5_length 1 (some .int) 0 := ⟨q506, q136, by decide +kernel, tp_len (by decide +kernel), by decide, by decide +kernel⟩
theorem M_J5_length : tp_Mk (tp_nm kJ5_length) (tp_by kJ5_length) (tp_ml kJ5_length) (tp_rtt kJ5_length) 0 := by rw [nm_J5_length, by_J5_length, lJ5_length, rt_J5_length]; exact N_J5_length
theorem nm_J5_coder : tp_nm kJ5_coder = yJ5_coder := rfl
theorem by_J5_coder : tp_by kJ5_coder = cJ5_coder := rfl
theorem rt_J5_coder : tp_rtt kJ5_coder = (some .byte) := rfl
theorem N_J5_coder : tp_Mk yJ5_coder cJ5_coder 1 (some .byte) 0 := ⟨q510, q136, by decide +kernel, tp_len (by decide +kernel), by decide, by decide +kernel⟩
theorem M_J5_coder : tp_Mk (tp_nm kJ5_coder) (tp_by kJ5_coder) (tp_ml kJ5_coder) (tp_rtt kJ5_coder) 0 := by rw [nm_J5_coder, by_J5_coder, lJ5_coder, rt_J5_coder]; exact N_J5_coder
theorem nm_J5_charAt : tp_nm kJ5_charAt = yJ5_charAt := rfl
theorem by_J5_charAt : tp_by kJ5_charAt = cJ5_charAt := rfl
theorem rt_J5_charAt : tp_rtt kJ5_charAt = (some .char) := rfl
theorem N_J5_charAt : tp_Mk yJ5_charAt cJ5_charAt 2 (some .char) 1 := ⟨q516, q136, by decide +kernel, tp_len (by decide +kernel), by decide, by decide +kernel⟩
theorem M_J5_charAt : tp_Mk (tp_nm kJ5_charAt) (tp_by kJ5_charAt) (tp_ml kJ5_charAt) (tp_rtt kJ5_charAt) 1 := by rw [nm_J5_charAt, by_J5_charAt, lJ5_charAt, rt_J5_charAt]; exact N_J5_charAt
theorem nm_J5_isLatin1 : tp_nm kJ5_isLatin1 = yJ5_isLatin1 := rfl
theorem by_J5_isLatin1 : tp_by kJ5_isLatin1 = cJ5_isLatin1 := rfl
theorem rt_J5_isLatin1 : tp_rtt kJ5_isLatin1 = (some .boolean) := rfl
theorem N_J5_isLatin1 : tp_Mk yJ5_isLatin1 cJ5_isLatin1 1 (some .boolean) 0 := ⟨q520, q136, by decide +kernel, tp_len (by decide +kernel), by decide, by decide +kernel⟩
theorem M_J5_isLatin1 : tp_Mk (tp_nm kJ5_isLatin1) (tp_by kJ5_isLatin1) (tp_ml kJ5_isLatin1) (tp_rtt kJ5_isLatin1) 0 := by rw [nm_J5_isLatin1, by_J5_isLatin1, lJ5_isLatin1, rt_J5_isLatin1]; exact N_J5_isLatin1
theorem nm_J5_checkIndex : tp_nm kJ5_checkIndex = yJ5_checkIndex := rfl
theorem by_J5_checkIndex : tp_by kJ5_checkIndex = cJ5_checkIndex := rfl
theorem rt_J5_checkIndex : tp_rtt kJ5_checkIndex = none := rfl
theorem N_J5_checkIndex : tp_Mk yJ5_checkIndex cJ5_checkIndex 2 none 2 := ⟨q526, q136, by decide +kernel, tp_len (by decide +kernel), by decide, by decide +kernel⟩
theorem M_J5_checkIndex : tp_Mk (tp_nm kJ5_checkIndex) (tp_by kJ5_checkIndex) (tp_ml kJ5_checkIndex) (tp_rtt kJ5_checkIndex) 2 := by rw [nm_J5_checkIndex, by_J5_checkIndex, lJ5_checkIndex, rt_J5_checkIndex]; exact N_J5_checkIndex
theorem nm_J6_charAt : tp_nm kJ6_charAt = yJ6_charAt := rfl
theorem by_J6_charAt : tp_by kJ6_charAt = cJ6_charAt := rfl
theorem rt_J6_charAt : tp_rtt kJ6_charAt = (some .char) := rfl
theorem N_J6_charAt : tp_Mk yJ6_charAt cJ6_charAt 2 (some .char) 2 := ⟨q523, q137, by decide +kernel, tp_len (by decide +kernel), by decide, by decide +kernel⟩
theorem M_J6_charAt : tp_Mk (tp_nm kJ6_charAt) (tp_by kJ6_charAt) (tp_ml kJ6_charAt) (tp_rtt kJ6_charAt) 2 := by rw [nm_J6_charAt, by_J6_charAt, lJ6_charAt, rt_J6_charAt]; exact N_J6_charAt
theorem nm_J7_checkIndex : tp_nm kJ7_checkIndex = yJ7_checkIndex := rfl
theorem by_J7_checkIndex : tp_by kJ7_checkIndex = cJ7_checkIndex := rfl
theorem rt_J7_checkIndex : tp_rtt kJ7_checkIndex = (some .int) := rfl
theorem N_J7_checkIndex : tp_Mk yJ7_checkIndex cJ7_checkIndex 3 (some .int) 3 := ⟨q531, q138, by decide +kernel, tp_len (by decide +kernel), by decide, by decide +kernel⟩
theorem M_J7_checkIndex : tp_Mk (tp_nm kJ7_checkIndex) (tp_by kJ7_checkIndex) (tp_ml kJ7_checkIndex) (tp_rtt kJ7_checkIndex) 3 := by rw [nm_J7_checkIndex, by_J7_checkIndex, lJ7_checkIndex, rt_J7_checkIndex]; exact N_J7_checkIndex
theorem nm_L_law : tp_nm kL_law = x := rfl
theorem by_L_law : tp_by kL_law = cL_law := rfl
theorem rt_L_law : tp_rtt kL_law = (some .boolean) := rfl
theorem nm_X0_cell : tp_nm kX0_cell = yX0_cell := rfl
theorem by_X0_cell : tp_by kX0_cell = cX0_cell := rfl
theorem rt_X0_cell : tp_rtt kX0_cell = (some .int) := rfl
theorem N_X0_cell : tp_Mk yX0_cell cX0_cell 2 (some .int) 2 := ⟨q1241, q124, by decide +kernel, tp_len (by decide +kernel), by decide, by decide +kernel⟩
theorem M_X0_cell : tp_Mk (tp_nm kX0_cell) (tp_by kX0_cell) (tp_ml kX0_cell) (tp_rtt kX0_cell) 2 := by rw [nm_X0_cell, by_X0_cell, lX0_cell, rt_X0_cell]; exact N_X0_cell
theorem nm_X1_init : tp_nm kX1_init = yX1_init := rfl
theorem by_X1_init : tp_by kX1_init = cX1_init := rfl
theorem rt_X1_init : tp_rtt kX1_init = none := rfl
theorem N_X1_init : tp_Mk yX1_init cX1_init 3 none 2 := ⟨q161, q125, by decide +kernel, tp_len (by decide +kernel), by decide, by decide +kernel⟩
theorem M_X1_init : tp_Mk (tp_nm kX1_init) (tp_by kX1_init) (tp_ml kX1_init) (tp_rtt kX1_init) 2 := by rw [nm_X1_init, by_X1_init, lX1_init, rt_X1_init]; exact N_X1_init
theorem nm_X1_ice : tp_nm kX1_ice = yX1_ice := rfl
theorem by_X1_ice : tp_by kX1_ice = cX1_ice := rfl
theorem rt_X1_ice : tp_rtt kX1_ice = (some .boolean) := rfl
theorem N_X1_ice : tp_Mk yX1_ice cX1_ice 3 (some .boolean) 2 := ⟨q330, q125, by decide +kernel, tp_len (by decide +kernel), by decide, by decide +kernel⟩
theorem M_X1_ice : tp_Mk (tp_nm kX1_ice) (tp_by kX1_ice) (tp_ml kX1_ice) (tp_rtt kX1_ice) 2 := by rw [nm_X1_ice, by_X1_ice, lX1_ice, rt_X1_ice]; exact N_X1_ice
theorem nm_X1_isCell : tp_nm kX1_isCell = yX1_isCell := rfl
theorem by_X1_isCell : tp_by kX1_isCell = cX1_isCell := rfl
theorem rt_X1_isCell : tp_rtt kX1_isCell = (some .boolean) := rfl
theorem N_X1_isCell : tp_Mk yX1_isCell cX1_isCell 2 (some .boolean) 1 := ⟨q334, q125, by decide +kernel, tp_len (by decide +kernel), by decide, by decide +kernel⟩
theorem M_X1_isCell : tp_Mk (tp_nm kX1_isCell) (tp_by kX1_isCell) (tp_ml kX1_isCell) (tp_rtt kX1_isCell) 1 := by rw [nm_X1_isCell, by_X1_isCell, lX1_isCell, rt_X1_isCell]; exact N_X1_isCell
theorem nm_X1_in : tp_nm kX1_in = yX1_in := rfl
theorem by_X1_in : tp_by kX1_in = cX1_in := rfl
theorem rt_X1_in : tp_rtt kX1_in = (some .boolean) := rfl
theorem N_X1_in : tp_Mk yX1_in cX1_in 3 (some .boolean) 3 := ⟨q337, q125, by decide +kernel, tp_len (by decide +kernel), by decide, by decide +kernel⟩
theorem M_X1_in : tp_Mk (tp_nm kX1_in) (tp_by kX1_in) (tp_ml kX1_in) (tp_rtt kX1_in) 3 := by rw [nm_X1_in, by_X1_in, lX1_in, rt_X1_in]; exact N_X1_in
theorem nm_X1_iceAt : tp_nm kX1_iceAt = yX1_iceAt := rfl
theorem by_X1_iceAt : tp_by kX1_iceAt = cX1_iceAt := rfl
theorem rt_X1_iceAt : tp_rtt kX1_iceAt = (some .int) := rfl
theorem N_X1_iceAt : tp_Mk yX1_iceAt cX1_iceAt 2 (some .int) 1 := ⟨q341, q125, by decide +kernel, tp_len (by decide +kernel), by decide, by decide +kernel⟩
theorem M_X1_iceAt : tp_Mk (tp_nm kX1_iceAt) (tp_by kX1_iceAt) (tp_ml kX1_iceAt) (tp_rtt kX1_iceAt) 1 := by rw [nm_X1_iceAt, by_X1_iceAt, lX1_iceAt, rt_X1_iceAt]; exact N_X1_iceAt
theorem nm_X1_mark : tp_nm kX1_mark = yX1_mark := rfl
theorem by_X1_mark : tp_by kX1_mark = cX1_mark := rfl
theorem rt_X1_mark : tp_rtt kX1_mark = (some .boolean) := rfl
theorem N_X1_mark : tp_Mk yX1_mark cX1_mark 4 (some .boolean) 3 := ⟨q345, q125, by decide +kernel, tp_len (by decide +kernel), by decide, by decide +kernel⟩
theorem M_X1_mark : tp_Mk (tp_nm kX1_mark) (tp_by kX1_mark) (tp_ml kX1_mark) (tp_rtt kX1_mark) 3 := by rw [nm_X1_mark, by_X1_mark, lX1_mark, rt_X1_mark]; exact N_X1_mark
theorem nm_X1_edge : tp_nm kX1_edge = yX1_edge := rfl
theorem by_X1_edge : tp_by kX1_edge = cX1_edge := rfl
theorem rt_X1_edge : tp_rtt kX1_edge = (some .boolean) := rfl
theorem N_X1_edge : tp_Mk yX1_edge cX1_edge 2 (some .boolean) 1 := ⟨q349, q125, by decide +kernel, tp_len (by decide +kernel), by decide, by decide +kernel⟩
theorem M_X1_edge : tp_Mk (tp_nm kX1_edge) (tp_by kX1_edge) (tp_ml kX1_edge) (tp_rtt kX1_edge) 1 := by rw [nm_X1_edge, by_X1_edge, lX1_edge, rt_X1_edge]; exact N_X1_edge
theorem nm_X1_drift : tp_nm kX1_drift = yX1_drift := rfl
theorem by_X1_drift : tp_by kX1_drift = cX1_drift := rfl
theorem rt_X1_drift : tp_rtt kX1_drift = (some .boolean) := rfl
theorem N_X1_drift : tp_Mk yX1_drift cX1_drift 4 (some .boolean) 3 := ⟨q353, q125, by decide +kernel, tp_len (by decide +kernel), by decide, by decide +kernel⟩
theorem M_X1_drift : tp_Mk (tp_nm kX1_drift) (tp_by kX1_drift) (tp_ml kX1_drift) (tp_rtt kX1_drift) 3 := by rw [nm_X1_drift, by_X1_drift, lX1_drift, rt_X1_drift]; exact N_X1_drift
theorem nm_X1_isWind : tp_nm kX1_isWind = yX1_isWind := rfl
theorem by_X1_isWind : tp_by kX1_isWind = cX1_isWind := rfl
theorem rt_X1_isWind : tp_rtt kX1_isWind = (some .boolean) := rfl
theorem N_X1_isWind : tp_Mk yX1_isWind cX1_isWind 1 (some .boolean) 1 := ⟨q356, q125, by decide +kernel, tp_len (by decide +kernel), by decide, by decide +kernel⟩
theorem M_X1_isWind : tp_Mk (tp_nm kX1_isWind) (tp_by kX1_isWind) (tp_ml kX1_isWind) (tp_rtt kX1_isWind) 1 := by rw [nm_X1_isWind, by_X1_isWind, lX1_isWind, rt_X1_isWind]; exact N_X1_isWind
theorem nm_X1_chances : tp_nm kX1_chances = yX1_chances := rfl
theorem by_X1_chances : tp_by kX1_chances = cX1_chances := rfl
theorem rt_X1_chances : tp_rtt kX1_chances = (some .boolean) := rfl
theorem N_X1_chances : tp_Mk yX1_chances cX1_chances 8 (some .boolean) 5 := ⟨q360, q125, by decide +kernel, tp_len (by decide +kernel), by decide, by decide +kernel⟩
theorem M_X1_chances : tp_Mk (tp_nm kX1_chances) (tp_by kX1_chances) (tp_ml kX1_chances) (tp_rtt kX1_chances) 5 := by rw [nm_X1_chances, by_X1_chances, lX1_chances, rt_X1_chances]; exact N_X1_chances
theorem nm_X1_ship : tp_nm kX1_ship = yX1_ship := rfl
theorem by_X1_ship : tp_by kX1_ship = cX1_ship := rfl
theorem rt_X1_ship : tp_rtt kX1_ship = (some .boolean) := rfl
theorem N_X1_ship : tp_Mk yX1_ship cX1_ship 5 (some .boolean) 3 := ⟨q365, q125, by decide +kernel, tp_len (by decide +kernel), by decide, by decide +kernel⟩
theorem M_X1_ship : tp_Mk (tp_nm kX1_ship) (tp_by kX1_ship) (tp_ml kX1_ship) (tp_rtt kX1_ship) 3 := by rw [nm_X1_ship, by_X1_ship, lX1_ship, rt_X1_ship]; exact N_X1_ship
theorem nm_X1_costs : tp_nm kX1_costs = yX1_costs := rfl
theorem by_X1_costs : tp_by kX1_costs = cX1_costs := rfl
theorem rt_X1_costs : tp_rtt kX1_costs = (some .boolean) := rfl
theorem N_X1_costs : tp_Mk yX1_costs cX1_costs 5 (some .boolean) 3 := ⟨q369, q125, by decide +kernel, tp_len (by decide +kernel), by decide, by decide +kernel⟩
theorem M_X1_costs : tp_Mk (tp_nm kX1_costs) (tp_by kX1_costs) (tp_ml kX1_costs) (tp_rtt kX1_costs) 3 := by rw [nm_X1_costs, by_X1_costs, lX1_costs, rt_X1_costs]; exact N_X1_costs
theorem nm_X1_wind : tp_nm kX1_wind = yX1_wind := rfl
theorem by_X1_wind : tp_by kX1_wind = cX1_wind := rfl
theorem rt_X1_wind : tp_rtt kX1_wind = (some .boolean) := rfl
theorem N_X1_wind : tp_Mk yX1_wind cX1_wind 2 (some .boolean) 1 := ⟨q373, q125, by decide +kernel, tp_len (by decide +kernel), by decide, by decide +kernel⟩
theorem M_X1_wind : tp_Mk (tp_nm kX1_wind) (tp_by kX1_wind) (tp_ml kX1_wind) (tp_rtt kX1_wind) 1 := by rw [nm_X1_wind, by_X1_wind, lX1_wind, rt_X1_wind]; exact N_X1_wind
theorem nm_X1_feed : tp_nm kX1_feed = yX1_feed := rfl
theorem by_X1_feed : tp_by kX1_feed = cX1_feed := rfl
theorem rt_X1_feed : tp_rtt kX1_feed = (some .int) := rfl
theorem N_X1_feed : tp_Mk yX1_feed cX1_feed 6 (some .int) 5 := ⟨q377, q125, by decide +kernel, tp_len (by decide +kernel), by decide, by decide +kernel⟩
theorem M_X1_feed : tp_Mk (tp_nm kX1_feed) (tp_by kX1_feed) (tp_ml kX1_feed) (tp_rtt kX1_feed) 5 := by rw [nm_X1_feed, by_X1_feed, lX1_feed, rt_X1_feed]; exact N_X1_feed
theorem nm_X1_put : tp_nm kX1_put = yX1_put := rfl
theorem by_X1_put : tp_by kX1_put = cX1_put := rfl
theorem rt_X1_put : tp_rtt kX1_put = none := rfl
theorem N_X1_put : tp_Mk yX1_put cX1_put 3 none 1 := ⟨q381, q125, by decide +kernel, tp_len (by decide +kernel), by decide, by decide +kernel⟩
theorem M_X1_put : tp_Mk (tp_nm kX1_put) (tp_by kX1_put) (tp_ml kX1_put) (tp_rtt kX1_put) 1 := by rw [nm_X1_put, by_X1_put, lX1_put, rt_X1_put]; exact N_X1_put
theorem nm_X1_end : tp_nm kX1_end = yX1_end := rfl
theorem by_X1_end : tp_by kX1_end = cX1_end := rfl
theorem rt_X1_end : tp_rtt kX1_end = (some .int) := rfl
theorem N_X1_end : tp_Mk yX1_end cX1_end 2 (some .int) 1 := ⟨q385, q125, by decide +kernel, tp_len (by decide +kernel), by decide, by decide +kernel⟩
theorem M_X1_end : tp_Mk (tp_nm kX1_end) (tp_by kX1_end) (tp_ml kX1_end) (tp_rtt kX1_end) 1 := by rw [nm_X1_end, by_X1_end, lX1_end, rt_X1_end]; exact N_X1_end
theorem nm_X1_text : tp_nm kX1_text = yX1_text := rfl
theorem by_X1_text : tp_by kX1_text = cX1_text := rfl
theorem rt_X1_text : tp_rtt kX1_text = (some .int) := rfl
theorem N_X1_text : tp_Mk yX1_text cX1_text 5 (some .int) 0 := ⟨q389, q125, by decide +kernel, tp_len (by decide +kernel), by decide, by decide +kernel⟩
theorem M_X1_text : tp_Mk (tp_nm kX1_text) (tp_by kX1_text) (tp_ml kX1_text) (tp_rtt kX1_text) 0 := by rw [nm_X1_text, by_X1_text, lX1_text, rt_X1_text]; exact N_X1_text
theorem nm_X1_fault : tp_nm kX1_fault = yX1_fault := rfl
theorem by_X1_fault : tp_by kX1_fault = cX1_fault := rfl
theorem rt_X1_fault : tp_rtt kX1_fault = (some .int) := rfl
theorem N_X1_fault : tp_Mk yX1_fault cX1_fault 2 (some .int) 1 := ⟨q880, q125, by decide +kernel, tp_len (by decide +kernel), by decide, by decide +kernel⟩
theorem M_X1_fault : tp_Mk (tp_nm kX1_fault) (tp_by kX1_fault) (tp_ml kX1_fault) (tp_rtt kX1_fault) 1 := by rw [nm_X1_fault, by_X1_fault, lX1_fault, rt_X1_fault]; exact N_X1_fault
theorem nm_X1_by : tp_nm kX1_by = yX1_by := rfl
theorem by_X1_by : tp_by kX1_by = cX1_by := rfl
theorem rt_X1_by : tp_rtt kX1_by = (some .boolean) := rfl
theorem N_X1_by : tp_Mk yX1_by cX1_by 2 (some .boolean) 1 := ⟨q884, q125, by decide +kernel, tp_len (by decide +kernel), by decide, by decide +kernel⟩
theorem M_X1_by : tp_Mk (tp_nm kX1_by) (tp_by kX1_by) (tp_ml kX1_by) (tp_rtt kX1_by) 1 := by rw [nm_X1_by, by_X1_by, lX1_by, rt_X1_by]; exact N_X1_by
theorem nm_X1_isText : tp_nm kX1_isText = yX1_isText := rfl
theorem by_X1_isText : tp_by kX1_isText = cX1_isText := rfl
theorem rt_X1_isText : tp_rtt kX1_isText = (some .boolean) := rfl
theorem N_X1_isText : tp_Mk yX1_isText cX1_isText 2 (some .boolean) 1 := ⟨q888, q125, by decide +kernel, tp_len (by decide +kernel), by decide, by decide +kernel⟩
theorem M_X1_isText : tp_Mk (tp_nm kX1_isText) (tp_by kX1_isText) (tp_ml kX1_isText) (tp_rtt kX1_isText) 1 := by rw [nm_X1_isText, by_X1_isText, lX1_isText, rt_X1_isText]; exact N_X1_isText
theorem nm_X1_can : tp_nm kX1_can = yX1_can := rfl
theorem by_X1_can : tp_by kX1_can = cX1_can := rfl
theorem rt_X1_can : tp_rtt kX1_can = (some .boolean) := rfl
theorem N_X1_can : tp_Mk yX1_can cX1_can 4 (some .boolean) 2 := ⟨q892, q125, by decide +kernel, tp_len (by decide +kernel), by decide, by decide +kernel⟩
theorem M_X1_can : tp_Mk (tp_nm kX1_can) (tp_by kX1_can) (tp_ml kX1_can) (tp_rtt kX1_can) 2 := by rw [nm_X1_can, by_X1_can, lX1_can, rt_X1_can]; exact N_X1_can
theorem nm_X1_isOrder : tp_nm kX1_isOrder = yX1_isOrder := rfl
theorem by_X1_isOrder : tp_by kX1_isOrder = cX1_isOrder := rfl
theorem rt_X1_isOrder : tp_rtt kX1_isOrder = (some .boolean) := rfl
theorem N_X1_isOrder : tp_Mk yX1_isOrder cX1_isOrder 1 (some .boolean) 1 := ⟨q895, q125, by decide +kernel, tp_len (by decide +kernel), by decide, by decide +kernel⟩
theorem M_X1_isOrder : tp_Mk (tp_nm kX1_isOrder) (tp_by kX1_isOrder) (tp_ml kX1_isOrder) (tp_rtt kX1_isOrder) 1 := by rw [nm_X1_isOrder, by_X1_isOrder, lX1_isOrder, rt_X1_isOrder]; exact N_X1_isOrder
theorem nm_X1_costOf : tp_nm kX1_costOf = yX1_costOf := rfl
theorem by_X1_costOf : tp_by kX1_costOf = cX1_costOf := rfl
theorem rt_X1_costOf : tp_rtt kX1_costOf = (some .int) := rfl
theorem N_X1_costOf : tp_Mk yX1_costOf cX1_costOf 10 (some .int) 7 := ⟨q899, q125, by decide +kernel, tp_len (by decide +kernel), by decide, by decide +kernel⟩
theorem M_X1_costOf : tp_Mk (tp_nm kX1_costOf) (tp_by kX1_costOf) (tp_ml kX1_costOf) (tp_rtt kX1_costOf) 7 := by rw [nm_X1_costOf, by_X1_costOf, lX1_costOf, rt_X1_costOf]; exact N_X1_costOf
theorem nm_X1_dx : tp_nm kX1_dx = yX1_dx := rfl
theorem by_X1_dx : tp_by kX1_dx = cX1_dx := rfl
theorem rt_X1_dx : tp_rtt kX1_dx = (some .int) := rfl
theorem N_X1_dx : tp_Mk yX1_dx cX1_dx 1 (some .int) 1 := ⟨q902, q125, by decide +kernel, tp_len (by decide +kernel), by decide, by decide +kernel⟩
theorem M_X1_dx : tp_Mk (tp_nm kX1_dx) (tp_by kX1_dx) (tp_ml kX1_dx) (tp_rtt kX1_dx) 1 := by rw [nm_X1_dx, by_X1_dx, lX1_dx, rt_X1_dx]; exact N_X1_dx
theorem nm_X1_dy : tp_nm kX1_dy = yX1_dy := rfl
theorem by_X1_dy : tp_by kX1_dy = cX1_dy := rfl
theorem rt_X1_dy : tp_rtt kX1_dy = (some .int) := rfl
theorem N_X1_dy : tp_Mk yX1_dy cX1_dy 1 (some .int) 1 := ⟨q905, q125, by decide +kernel, tp_len (by decide +kernel), by decide, by decide +kernel⟩
theorem M_X1_dy : tp_Mk (tp_nm kX1_dy) (tp_by kX1_dy) (tp_ml kX1_dy) (tp_rtt kX1_dy) 1 := by rw [nm_X1_dy, by_X1_dy, lX1_dy, rt_X1_dy]; exact N_X1_dy
theorem nm_X1_beside : tp_nm kX1_beside = yX1_beside := rfl
theorem by_X1_beside : tp_by kX1_beside = cX1_beside := rfl
theorem rt_X1_beside : tp_rtt kX1_beside = (some .int) := rfl
theorem N_X1_beside : tp_Mk yX1_beside cX1_beside 6 (some .int) 3 := ⟨q909, q125, by decide +kernel, tp_len (by decide +kernel), by decide, by decide +kernel⟩
theorem M_X1_beside : tp_Mk (tp_nm kX1_beside) (tp_by kX1_beside) (tp_ml kX1_beside) (tp_rtt kX1_beside) 3 := by rw [nm_X1_beside, by_X1_beside, lX1_beside, rt_X1_beside]; exact N_X1_beside
theorem nm_X1_may : tp_nm kX1_may = yX1_may := rfl
theorem by_X1_may : tp_by kX1_may = cX1_may := rfl
theorem rt_X1_may : tp_rtt kX1_may = (some .boolean) := rfl
theorem N_X1_may : tp_Mk yX1_may cX1_may 6 (some .boolean) 4 := ⟨q913, q125, by decide +kernel, tp_len (by decide +kernel), by decide, by decide +kernel⟩
theorem M_X1_may : tp_Mk (tp_nm kX1_may) (tp_by kX1_may) (tp_ml kX1_may) (tp_rtt kX1_may) 4 := by rw [nm_X1_may, by_X1_may, lX1_may, rt_X1_may]; exact N_X1_may
theorem nm_X1_rules : tp_nm kX1_rules = yX1_rules := rfl
theorem by_X1_rules : tp_by kX1_rules = cX1_rules := rfl
theorem rt_X1_rules : tp_rtt kX1_rules = (some (.object "ThroughPack$Text")) := rfl
theorem N_X1_rules : tp_Mk yX1_rules cX1_rules 1 (some (.object "ThroughPack$Text")) 0 := ⟨q917, q125, by decide +kernel, tp_len (by decide +kernel), by decide, by decide +kernel⟩
theorem M_X1_rules : tp_Mk (tp_nm kX1_rules) (tp_by kX1_rules) (tp_ml kX1_rules) (tp_rtt kX1_rules) 0 := by rw [nm_X1_rules, by_X1_rules, lX1_rules, rt_X1_rules]; exact N_X1_rules
theorem nm_X1_names : tp_nm kX1_names = yX1_names := rfl
theorem by_X1_names : tp_by kX1_names = cX1_names := rfl
theorem rt_X1_names : tp_rtt kX1_names = none := rfl
theorem N_X1_names : tp_Mk yX1_names cX1_names 7 none 4 := ⟨q922, q125, by decide +kernel, tp_len (by decide +kernel), by decide, by decide +kernel⟩
theorem M_X1_names : tp_Mk (tp_nm kX1_names) (tp_by kX1_names) (tp_ml kX1_names) (tp_rtt kX1_names) 4 := by rw [nm_X1_names, by_X1_names, lX1_names, rt_X1_names]; exact N_X1_names
theorem nm_X1_costOf_2 : tp_nm kX1_costOf_2 = yX1_costOf_2 := rfl
theorem by_X1_costOf_2 : tp_by kX1_costOf_2 = cX1_costOf_2 := rfl
theorem rt_X1_costOf_2 : tp_rtt kX1_costOf_2 = (some .int) := rfl
theorem N_X1_costOf_2 : tp_Mk yX1_costOf_2 cX1_costOf_2 6 (some .int) 4 := ⟨q1009, q125, by decide +kernel, tp_len (by decide +kernel), by decide, by decide +kernel⟩
theorem M_X1_costOf_2 : tp_Mk (tp_nm kX1_costOf_2) (tp_by kX1_costOf_2) (tp_ml kX1_costOf_2) (tp_rtt kX1_costOf_2) 4 := by rw [nm_X1_costOf_2, by_X1_costOf_2, lX1_costOf_2, rt_X1_costOf_2]; exact N_X1_costOf_2
theorem nm_X1_watch : tp_nm kX1_watch = yX1_watch := rfl
theorem by_X1_watch : tp_by kX1_watch = cX1_watch := rfl
theorem rt_X1_watch : tp_rtt kX1_watch = (some .int) := rfl
theorem N_X1_watch : tp_Mk yX1_watch cX1_watch 12 (some .int) 3 := ⟨q1018, q125, by decide +kernel, tp_len (by decide +kernel), by decide, by decide +kernel⟩
theorem M_X1_watch : tp_Mk (tp_nm kX1_watch) (tp_by kX1_watch) (tp_ml kX1_watch) (tp_rtt kX1_watch) 3 := by rw [nm_X1_watch, by_X1_watch, lX1_watch, rt_X1_watch]; exact N_X1_watch
theorem nm_X1_does : tp_nm kX1_does = yX1_does := rfl
theorem by_X1_does : tp_by kX1_does = cX1_does := rfl
theorem rt_X1_does : tp_rtt kX1_does = (some .boolean) := rfl
theorem N_X1_does : tp_Mk yX1_does cX1_does 4 (some .boolean) 2 := ⟨q1022, q125, by decide +kernel, tp_len (by decide +kernel), by decide, by decide +kernel⟩
theorem M_X1_does : tp_Mk (tp_nm kX1_does) (tp_by kX1_does) (tp_ml kX1_does) (tp_rtt kX1_does) 2 := by rw [nm_X1_does, by_X1_does, lX1_does, rt_X1_does]; exact N_X1_does
theorem nm_X1_goes : tp_nm kX1_goes = yX1_goes := rfl
theorem by_X1_goes : tp_by kX1_goes = cX1_goes := rfl
theorem rt_X1_goes : tp_rtt kX1_goes = none := rfl
theorem N_X1_goes : tp_Mk yX1_goes cX1_goes 7 none 4 := ⟨q1027, q125, by decide +kernel, tp_len (by decide +kernel), by decide, by decide +kernel⟩
theorem M_X1_goes : tp_Mk (tp_nm kX1_goes) (tp_by kX1_goes) (tp_ml kX1_goes) (tp_rtt kX1_goes) 4 := by rw [nm_X1_goes, by_X1_goes, lX1_goes, rt_X1_goes]; exact N_X1_goes
theorem nm_X1_drifts : tp_nm kX1_drifts = yX1_drifts := rfl
theorem by_X1_drifts : tp_by kX1_drifts = cX1_drifts := rfl
theorem rt_X1_drifts : tp_rtt kX1_drifts = (some .int) := rfl
theorem N_X1_drifts : tp_Mk yX1_drifts cX1_drifts 4 (some .int) 2 := ⟨q1031, q125, by decide +kernel, tp_len (by decide +kernel), by decide, by decide +kernel⟩
theorem M_X1_drifts : tp_Mk (tp_nm kX1_drifts) (tp_by kX1_drifts) (tp_ml kX1_drifts) (tp_rtt kX1_drifts) 2 := by rw [nm_X1_drifts, by_X1_drifts, lX1_drifts, rt_X1_drifts]; exact N_X1_drifts
theorem nm_X1_nips : tp_nm kX1_nips = yX1_nips := rfl
theorem by_X1_nips : tp_by kX1_nips = cX1_nips := rfl
theorem rt_X1_nips : tp_rtt kX1_nips = (some .boolean) := rfl
theorem N_X1_nips : tp_Mk yX1_nips cX1_nips 6 (some .boolean) 4 := ⟨q1035, q125, by decide +kernel, tp_len (by decide +kernel), by decide, by decide +kernel⟩
theorem M_X1_nips : tp_Mk (tp_nm kX1_nips) (tp_by kX1_nips) (tp_ml kX1_nips) (tp_rtt kX1_nips) 4 := by rw [nm_X1_nips, by_X1_nips, lX1_nips, rt_X1_nips]; exact N_X1_nips
theorem nm_X1_of : tp_nm kX1_of = yX1_of := rfl
theorem by_X1_of : tp_by kX1_of = cX1_of := rfl
theorem rt_X1_of : tp_rtt kX1_of = (some .int) := rfl
theorem N_X1_of : tp_Mk yX1_of cX1_of 3 (some .int) 2 := ⟨q1039, q125, by decide +kernel, tp_len (by decide +kernel), by decide, by decide +kernel⟩
theorem M_X1_of : tp_Mk (tp_nm kX1_of) (tp_by kX1_of) (tp_ml kX1_of) (tp_rtt kX1_of) 2 := by rw [nm_X1_of, by_X1_of, lX1_of, rt_X1_of]; exact N_X1_of
theorem nm_X1_soonest : tp_nm kX1_soonest = yX1_soonest := rfl
theorem by_X1_soonest : tp_by kX1_soonest = cX1_soonest := rfl
theorem rt_X1_soonest : tp_rtt kX1_soonest = (some .int) := rfl
theorem N_X1_soonest : tp_Mk yX1_soonest cX1_soonest 8 (some .int) 1 := ⟨q1043, q125, by decide +kernel, tp_len (by decide +kernel), by decide, by decide +kernel⟩
theorem M_X1_soonest : tp_Mk (tp_nm kX1_soonest) (tp_by kX1_soonest) (tp_ml kX1_soonest) (tp_rtt kX1_soonest) 1 := by rw [nm_X1_soonest, by_X1_soonest, lX1_soonest, rt_X1_soonest]; exact N_X1_soonest
theorem nm_X1_ship_2 : tp_nm kX1_ship_2 = yX1_ship_2 := rfl
theorem by_X1_ship_2 : tp_by kX1_ship_2 = cX1_ship_2 := rfl
theorem rt_X1_ship_2 : tp_rtt kX1_ship_2 = (some (.array .int)) := rfl
theorem N_X1_ship_2 : tp_Mk yX1_ship_2 cX1_ship_2 1 (some (.array .int)) 0 := ⟨q1047, q125, by decide +kernel, tp_len (by decide +kernel), by decide, by decide +kernel⟩
theorem M_X1_ship_2 : tp_Mk (tp_nm kX1_ship_2) (tp_by kX1_ship_2) (tp_ml kX1_ship_2) (tp_rtt kX1_ship_2) 0 := by rw [nm_X1_ship_2, by_X1_ship_2, lX1_ship_2, rt_X1_ship_2]; exact N_X1_ship_2
theorem nm_X1_laysAhead : tp_nm kX1_laysAhead = yX1_laysAhead := rfl
theorem by_X1_laysAhead : tp_by kX1_laysAhead = cX1_laysAhead := rfl
theorem rt_X1_laysAhead : tp_rtt kX1_laysAhead = none := rfl
theorem N_X1_laysAhead : tp_Mk yX1_laysAhead cX1_laysAhead 1 none 0 := ⟨q1051, q125, by decide +kernel, tp_len (by decide +kernel), by decide, by decide +kernel⟩
theorem M_X1_laysAhead : tp_Mk (tp_nm kX1_laysAhead) (tp_by kX1_laysAhead) (tp_ml kX1_laysAhead) (tp_rtt kX1_laysAhead) 0 := by rw [nm_X1_laysAhead, by_X1_laysAhead, lX1_laysAhead, rt_X1_laysAhead]; exact N_X1_laysAhead
theorem nm_X1_laysSea : tp_nm kX1_laysSea = yX1_laysSea := rfl
theorem by_X1_laysSea : tp_by kX1_laysSea = cX1_laysSea := rfl
theorem rt_X1_laysSea : tp_rtt kX1_laysSea = none := rfl
theorem N_X1_laysSea : tp_Mk yX1_laysSea cX1_laysSea 2 none 0 := ⟨q1055, q125, by decide +kernel, tp_len (by decide +kernel), by decide, by decide +kernel⟩
theorem M_X1_laysSea : tp_Mk (tp_nm kX1_laysSea) (tp_by kX1_laysSea) (tp_ml kX1_laysSea) (tp_rtt kX1_laysSea) 0 := by rw [nm_X1_laysSea, by_X1_laysSea, lX1_laysSea, rt_X1_laysSea]; exact N_X1_laysSea
theorem nm_X1_soonest_2 : tp_nm kX1_soonest_2 = yX1_soonest_2 := rfl
theorem by_X1_soonest_2 : tp_by kX1_soonest_2 = cX1_soonest_2 := rfl
theorem rt_X1_soonest_2 : tp_rtt kX1_soonest_2 = (some .int) := rfl
theorem N_X1_soonest_2 : tp_Mk yX1_soonest_2 cX1_soonest_2 8 (some .int) 4 := ⟨q1060, q125, by decide +kernel, tp_len (by decide +kernel), by decide, by decide +kernel⟩
theorem M_X1_soonest_2 : tp_Mk (tp_nm kX1_soonest_2) (tp_by kX1_soonest_2) (tp_ml kX1_soonest_2) (tp_rtt kX1_soonest_2) 4 := by rw [nm_X1_soonest_2, by_X1_soonest_2, lX1_soonest_2, rt_X1_soonest_2]; exact N_X1_soonest_2
theorem nm_X1_soonestBy : tp_nm kX1_soonestBy = yX1_soonestBy := rfl
theorem by_X1_soonestBy : tp_by kX1_soonestBy = cX1_soonestBy := rfl
theorem rt_X1_soonestBy : tp_rtt kX1_soonestBy = (some .int) := rfl
theorem N_X1_soonestBy : tp_Mk yX1_soonestBy cX1_soonestBy 8 (some .int) 5 := ⟨q1065, q125, by decide +kernel, tp_len (by decide +kernel), by decide, by decide +kernel⟩
theorem M_X1_soonestBy : tp_Mk (tp_nm kX1_soonestBy) (tp_by kX1_soonestBy) (tp_ml kX1_soonestBy) (tp_rtt kX1_soonestBy) 5 := by rw [nm_X1_soonestBy, by_X1_soonestBy, lX1_soonestBy, rt_X1_soonestBy]; exact N_X1_soonestBy
theorem nm_X1_costAt : tp_nm kX1_costAt = yX1_costAt := rfl
theorem by_X1_costAt : tp_by kX1_costAt = cX1_costAt := rfl
theorem rt_X1_costAt : tp_rtt kX1_costAt = (some .int) := rfl
theorem N_X1_costAt : tp_Mk yX1_costAt cX1_costAt 6 (some .int) 5 := ⟨q1069, q125, by decide +kernel, tp_len (by decide +kernel), by decide, by decide +kernel⟩
theorem M_X1_costAt : tp_Mk (tp_nm kX1_costAt) (tp_by kX1_costAt) (tp_ml kX1_costAt) (tp_rtt kX1_costAt) 5 := by rw [nm_X1_costAt, by_X1_costAt, lX1_costAt, rt_X1_costAt]; exact N_X1_costAt
theorem nm_X1_windAt : tp_nm kX1_windAt = yX1_windAt := rfl
theorem by_X1_windAt : tp_by kX1_windAt = cX1_windAt := rfl
theorem rt_X1_windAt : tp_rtt kX1_windAt = (some .int) := rfl
theorem N_X1_windAt : tp_Mk yX1_windAt cX1_windAt 2 (some .int) 1 := ⟨q1073, q125, by decide +kernel, tp_len (by decide +kernel), by decide, by decide +kernel⟩
theorem M_X1_windAt : tp_Mk (tp_nm kX1_windAt) (tp_by kX1_windAt) (tp_ml kX1_windAt) (tp_rtt kX1_windAt) 1 := by rw [nm_X1_windAt, by_X1_windAt, lX1_windAt, rt_X1_windAt]; exact N_X1_windAt
theorem nm_X1_cellBehind : tp_nm kX1_cellBehind = yX1_cellBehind := rfl
theorem by_X1_cellBehind : tp_by kX1_cellBehind = cX1_cellBehind := rfl
theorem rt_X1_cellBehind : tp_rtt kX1_cellBehind = (some .int) := rfl
theorem N_X1_cellBehind : tp_Mk yX1_cellBehind cX1_cellBehind 4 (some .int) 3 := ⟨q1077, q125, by decide +kernel, tp_len (by decide +kernel), by decide, by decide +kernel⟩
theorem M_X1_cellBehind : tp_Mk (tp_nm kX1_cellBehind) (tp_by kX1_cellBehind) (tp_ml kX1_cellBehind) (tp_rtt kX1_cellBehind) 3 := by rw [nm_X1_cellBehind, by_X1_cellBehind, lX1_cellBehind, rt_X1_cellBehind]; exact N_X1_cellBehind
theorem nm_X1_nippedAt : tp_nm kX1_nippedAt = yX1_nippedAt := rfl
theorem by_X1_nippedAt : tp_by kX1_nippedAt = cX1_nippedAt := rfl
theorem rt_X1_nippedAt : tp_rtt kX1_nippedAt = (some .boolean) := rfl
theorem N_X1_nippedAt : tp_Mk yX1_nippedAt cX1_nippedAt 3 (some .boolean) 2 := ⟨q1081, q125, by decide +kernel, tp_len (by decide +kernel), by decide, by decide +kernel⟩
theorem M_X1_nippedAt : tp_Mk (tp_nm kX1_nippedAt) (tp_by kX1_nippedAt) (tp_ml kX1_nippedAt) (tp_rtt kX1_nippedAt) 2 := by rw [nm_X1_nippedAt, by_X1_nippedAt, lX1_nippedAt, rt_X1_nippedAt]; exact N_X1_nippedAt
theorem nm_X1_fires : tp_nm kX1_fires = yX1_fires := rfl
theorem by_X1_fires : tp_by kX1_fires = cX1_fires := rfl
theorem rt_X1_fires : tp_rtt kX1_fires = (some .int) := rfl
theorem N_X1_fires : tp_Mk yX1_fires cX1_fires 2 (some .int) 2 := ⟨q1084, q125, by decide +kernel, tp_len (by decide +kernel), by decide, by decide +kernel⟩
theorem M_X1_fires : tp_Mk (tp_nm kX1_fires) (tp_by kX1_fires) (tp_ml kX1_fires) (tp_rtt kX1_fires) 2 := by rw [nm_X1_fires, by_X1_fires, lX1_fires, rt_X1_fires]; exact N_X1_fires
theorem nm_X1_least : tp_nm kX1_least = yX1_least := rfl
theorem by_X1_least : tp_by kX1_least = cX1_least := rfl
theorem rt_X1_least : tp_rtt kX1_least = (some .int) := rfl
theorem N_X1_least : tp_Mk yX1_least cX1_least 2 (some .int) 0 := ⟨q1088, q125, by decide +kernel, tp_len (by decide +kernel), by decide, by decide +kernel⟩
theorem M_X1_least : tp_Mk (tp_nm kX1_least) (tp_by kX1_least) (tp_ml kX1_least) (tp_rtt kX1_least) 0 := by rw [nm_X1_least, by_X1_least, lX1_least, rt_X1_least]; exact N_X1_least
theorem nm_X1_ahead : tp_nm kX1_ahead = yX1_ahead := rfl
theorem by_X1_ahead : tp_by kX1_ahead = cX1_ahead := rfl
theorem rt_X1_ahead : tp_rtt kX1_ahead = (some .int) := rfl
theorem N_X1_ahead : tp_Mk yX1_ahead cX1_ahead 3 (some .int) 2 := ⟨q1092, q125, by decide +kernel, tp_len (by decide +kernel), by decide, by decide +kernel⟩
theorem M_X1_ahead : tp_Mk (tp_nm kX1_ahead) (tp_by kX1_ahead) (tp_ml kX1_ahead) (tp_rtt kX1_ahead) 2 := by rw [nm_X1_ahead, by_X1_ahead, lX1_ahead, rt_X1_ahead]; exact N_X1_ahead
theorem nm_X1_many : tp_nm kX1_many = yX1_many := rfl
theorem by_X1_many : tp_by kX1_many = cX1_many := rfl
theorem rt_X1_many : tp_rtt kX1_many = (some .boolean) := rfl
theorem N_X1_many : tp_Mk yX1_many cX1_many 3 (some .boolean) 2 := ⟨q1096, q125, by decide +kernel, tp_len (by decide +kernel), by decide, by decide +kernel⟩
theorem M_X1_many : tp_Mk (tp_nm kX1_many) (tp_by kX1_many) (tp_ml kX1_many) (tp_rtt kX1_many) 2 := by rw [nm_X1_many, by_X1_many, lX1_many, rt_X1_many]; exact N_X1_many
theorem nm_X1_order : tp_nm kX1_order = yX1_order := rfl
theorem by_X1_order : tp_by kX1_order = cX1_order := rfl
theorem rt_X1_order : tp_rtt kX1_order = (some .int) := rfl
theorem N_X1_order : tp_Mk yX1_order cX1_order 3 (some .int) 2 := ⟨q1100, q125, by decide +kernel, tp_len (by decide +kernel), by decide, by decide +kernel⟩
theorem M_X1_order : tp_Mk (tp_nm kX1_order) (tp_by kX1_order) (tp_ml kX1_order) (tp_rtt kX1_order) 2 := by rw [nm_X1_order, by_X1_order, lX1_order, rt_X1_order]; exact N_X1_order
theorem nm_X1_told : tp_nm kX1_told = yX1_told := rfl
theorem by_X1_told : tp_by kX1_told = cX1_told := rfl
theorem rt_X1_told : tp_rtt kX1_told = (some .int) := rfl
theorem N_X1_told : tp_Mk yX1_told cX1_told 2 (some .int) 1 := ⟨q1104, q125, by decide +kernel, tp_len (by decide +kernel), by decide, by decide +kernel⟩
theorem M_X1_told : tp_Mk (tp_nm kX1_told) (tp_by kX1_told) (tp_ml kX1_told) (tp_rtt kX1_told) 1 := by rw [nm_X1_told, by_X1_told, lX1_told, rt_X1_told]; exact N_X1_told
theorem nm_X1_laysPath : tp_nm kX1_laysPath = yX1_laysPath := rfl
theorem by_X1_laysPath : tp_by kX1_laysPath = cX1_laysPath := rfl
theorem rt_X1_laysPath : tp_rtt kX1_laysPath = none := rfl
theorem N_X1_laysPath : tp_Mk yX1_laysPath cX1_laysPath 7 none 0 := ⟨q1108, q125, by decide +kernel, tp_len (by decide +kernel), by decide, by decide +kernel⟩
theorem M_X1_laysPath : tp_Mk (tp_nm kX1_laysPath) (tp_by kX1_laysPath) (tp_ml kX1_laysPath) (tp_rtt kX1_laysPath) 0 := by rw [nm_X1_laysPath, by_X1_laysPath, lX1_laysPath, rt_X1_laysPath]; exact N_X1_laysPath
theorem nm_X1_home : tp_nm kX1_home = yX1_home := rfl
theorem by_X1_home : tp_by kX1_home = cX1_home := rfl
theorem rt_X1_home : tp_rtt kX1_home = (some .boolean) := rfl
theorem N_X1_home : tp_Mk yX1_home cX1_home 2 (some .boolean) 1 := ⟨q1112, q125, by decide +kernel, tp_len (by decide +kernel), by decide, by decide +kernel⟩
theorem M_X1_home : tp_Mk (tp_nm kX1_home) (tp_by kX1_home) (tp_ml kX1_home) (tp_rtt kX1_home) 1 := by rw [nm_X1_home, by_X1_home, lX1_home, rt_X1_home]; exact N_X1_home
theorem nm_X1_last : tp_nm kX1_last = yX1_last := rfl
theorem by_X1_last : tp_by kX1_last = cX1_last := rfl
theorem rt_X1_last : tp_rtt kX1_last = (some .int) := rfl
theorem N_X1_last : tp_Mk yX1_last cX1_last 2 (some .int) 0 := ⟨q1116, q125, by decide +kernel, tp_len (by decide +kernel), by decide, by decide +kernel⟩
theorem M_X1_last : tp_Mk (tp_nm kX1_last) (tp_by kX1_last) (tp_ml kX1_last) (tp_rtt kX1_last) 0 := by rw [nm_X1_last, by_X1_last, lX1_last, rt_X1_last]; exact N_X1_last
theorem nm_X1_comesHome : tp_nm kX1_comesHome = yX1_comesHome := rfl
theorem by_X1_comesHome : tp_by kX1_comesHome = cX1_comesHome := rfl
theorem rt_X1_comesHome : tp_rtt kX1_comesHome = (some .boolean) := rfl
theorem N_X1_comesHome : tp_Mk yX1_comesHome cX1_comesHome 10 (some .boolean) 4 := ⟨q1120, q125, by decide +kernel, tp_len (by decide +kernel), by decide, by decide +kernel⟩
theorem M_X1_comesHome : tp_Mk (tp_nm kX1_comesHome) (tp_by kX1_comesHome) (tp_ml kX1_comesHome) (tp_rtt kX1_comesHome) 4 := by rw [nm_X1_comesHome, by_X1_comesHome, lX1_comesHome, rt_X1_comesHome]; exact N_X1_comesHome
theorem nm_X1_walk : tp_nm kX1_walk = yX1_walk := rfl
theorem by_X1_walk : tp_by kX1_walk = cX1_walk := rfl
theorem rt_X1_walk : tp_rtt kX1_walk = (some .int) := rfl
theorem N_X1_walk : tp_Mk yX1_walk cX1_walk 2 (some .int) 1 := ⟨q1124, q125, by decide +kernel, tp_len (by decide +kernel), by decide, by decide +kernel⟩
theorem M_X1_walk : tp_Mk (tp_nm kX1_walk) (tp_by kX1_walk) (tp_ml kX1_walk) (tp_rtt kX1_walk) 1 := by rw [nm_X1_walk, by_X1_walk, lX1_walk, rt_X1_walk]; exact N_X1_walk
theorem nm_X1_walkFrom : tp_nm kX1_walkFrom = yX1_walkFrom := rfl
theorem by_X1_walkFrom : tp_by kX1_walkFrom = cX1_walkFrom := rfl
theorem rt_X1_walkFrom : tp_rtt kX1_walkFrom = (some .int) := rfl
theorem N_X1_walkFrom : tp_Mk yX1_walkFrom cX1_walkFrom 8 (some .int) 1 := ⟨q1128, q125, by decide +kernel, tp_len (by decide +kernel), by decide, by decide +kernel⟩
theorem M_X1_walkFrom : tp_Mk (tp_nm kX1_walkFrom) (tp_by kX1_walkFrom) (tp_ml kX1_walkFrom) (tp_rtt kX1_walkFrom) 1 := by rw [nm_X1_walkFrom, by_X1_walkFrom, lX1_walkFrom, rt_X1_walkFrom]; exact N_X1_walkFrom
theorem nm_X1_walks : tp_nm kX1_walks = yX1_walks := rfl
theorem by_X1_walks : tp_by kX1_walks = cX1_walks := rfl
theorem rt_X1_walks : tp_rtt kX1_walks = (some .boolean) := rfl
theorem N_X1_walks : tp_Mk yX1_walks cX1_walks 6 (some .boolean) 4 := ⟨q1132, q125, by decide +kernel, tp_len (by decide +kernel), by decide, by decide +kernel⟩
theorem M_X1_walks : tp_Mk (tp_nm kX1_walks) (tp_by kX1_walks) (tp_ml kX1_walks) (tp_rtt kX1_walks) 4 := by rw [nm_X1_walks, by_X1_walks, lX1_walks, rt_X1_walks]; exact N_X1_walks
theorem nm_X1_leave : tp_nm kX1_leave = yX1_leave := rfl
theorem by_X1_leave : tp_by kX1_leave = cX1_leave := rfl
theorem rt_X1_leave : tp_rtt kX1_leave = (some .int) := rfl
theorem N_X1_leave : tp_Mk yX1_leave cX1_leave 2 (some .int) 0 := ⟨q1136, q125, by decide +kernel, tp_len (by decide +kernel), by decide, by decide +kernel⟩
theorem M_X1_leave : tp_Mk (tp_nm kX1_leave) (tp_by kX1_leave) (tp_ml kX1_leave) (tp_rtt kX1_leave) 0 := by rw [nm_X1_leave, by_X1_leave, lX1_leave, rt_X1_leave]; exact N_X1_leave
theorem nm_X1_winter : tp_nm kX1_winter = yX1_winter := rfl
theorem by_X1_winter : tp_by kX1_winter = cX1_winter := rfl
theorem rt_X1_winter : tp_rtt kX1_winter = (some .int) := rfl
theorem N_X1_winter : tp_Mk yX1_winter cX1_winter 4 (some .int) 1 := ⟨q1140, q125, by decide +kernel, tp_len (by decide +kernel), by decide, by decide +kernel⟩
theorem M_X1_winter : tp_Mk (tp_nm kX1_winter) (tp_by kX1_winter) (tp_ml kX1_winter) (tp_rtt kX1_winter) 1 := by rw [nm_X1_winter, by_X1_winter, lX1_winter, rt_X1_winter]; exact N_X1_winter
theorem nm_X1_nipsFrom : tp_nm kX1_nipsFrom = yX1_nipsFrom := rfl
theorem by_X1_nipsFrom : tp_by kX1_nipsFrom = cX1_nipsFrom := rfl
theorem rt_X1_nipsFrom : tp_rtt kX1_nipsFrom = (some .int) := rfl
theorem N_X1_nipsFrom : tp_Mk yX1_nipsFrom cX1_nipsFrom 5 (some .int) 1 := ⟨q1144, q125, by decide +kernel, tp_len (by decide +kernel), by decide, by decide +kernel⟩
theorem M_X1_nipsFrom : tp_Mk (tp_nm kX1_nipsFrom) (tp_by kX1_nipsFrom) (tp_ml kX1_nipsFrom) (tp_rtt kX1_nipsFrom) 1 := by rw [nm_X1_nipsFrom, by_X1_nipsFrom, lX1_nipsFrom, rt_X1_nipsFrom]; exact N_X1_nipsFrom
theorem nm_X1_surest : tp_nm kX1_surest = yX1_surest := rfl
theorem by_X1_surest : tp_by kX1_surest = cX1_surest := rfl
theorem rt_X1_surest : tp_rtt kX1_surest = (some .int) := rfl
theorem N_X1_surest : tp_Mk yX1_surest cX1_surest 6 (some .int) 2 := ⟨q1148, q125, by decide +kernel, tp_len (by decide +kernel), by decide, by decide +kernel⟩
theorem M_X1_surest : tp_Mk (tp_nm kX1_surest) (tp_by kX1_surest) (tp_ml kX1_surest) (tp_rtt kX1_surest) 2 := by rw [nm_X1_surest, by_X1_surest, lX1_surest, rt_X1_surest]; exact N_X1_surest
theorem nm_X1_surest_2 : tp_nm kX1_surest_2 = yX1_surest_2 := rfl
theorem by_X1_surest_2 : tp_by kX1_surest_2 = cX1_surest_2 := rfl
theorem rt_X1_surest_2 : tp_rtt kX1_surest_2 = (some .int) := rfl
theorem N_X1_surest_2 : tp_Mk yX1_surest_2 cX1_surest_2 10 (some .int) 7 := ⟨q1154, q125, by decide +kernel, tp_len (by decide +kernel), by decide, by decide +kernel⟩
theorem M_X1_surest_2 : tp_Mk (tp_nm kX1_surest_2) (tp_by kX1_surest_2) (tp_ml kX1_surest_2) (tp_rtt kX1_surest_2) 7 := by rw [nm_X1_surest_2, by_X1_surest_2, lX1_surest_2, rt_X1_surest_2]; exact N_X1_surest_2
theorem nm_X1_surestBy : tp_nm kX1_surestBy = yX1_surestBy := rfl
theorem by_X1_surestBy : tp_by kX1_surestBy = cX1_surestBy := rfl
theorem rt_X1_surestBy : tp_rtt kX1_surestBy = (some .int) := rfl
theorem N_X1_surestBy : tp_Mk yX1_surestBy cX1_surestBy 14 (some .int) 8 := ⟨q1158, q125, by decide +kernel, tp_len (by decide +kernel), by decide, by decide +kernel⟩
theorem M_X1_surestBy : tp_Mk (tp_nm kX1_surestBy) (tp_by kX1_surestBy) (tp_ml kX1_surestBy) (tp_rtt kX1_surestBy) 8 := by rw [nm_X1_surestBy, by_X1_surestBy, lX1_surestBy, rt_X1_surestBy]; exact N_X1_surestBy
theorem nm_X1_known : tp_nm kX1_known = yX1_known := rfl
theorem by_X1_known : tp_by kX1_known = cX1_known := rfl
theorem rt_X1_known : tp_rtt kX1_known = (some .int) := rfl
theorem N_X1_known : tp_Mk yX1_known cX1_known 7 (some .int) 1 := ⟨q1162, q125, by decide +kernel, tp_len (by decide +kernel), by decide, by decide +kernel⟩
theorem M_X1_known : tp_Mk (tp_nm kX1_known) (tp_by kX1_known) (tp_ml kX1_known) (tp_rtt kX1_known) 1 := by rw [nm_X1_known, by_X1_known, lX1_known, rt_X1_known]; exact N_X1_known
theorem nm_X1_leads : tp_nm kX1_leads = yX1_leads := rfl
theorem by_X1_leads : tp_by kX1_leads = cX1_leads := rfl
theorem rt_X1_leads : tp_rtt kX1_leads = (some .int) := rfl
theorem N_X1_leads : tp_Mk yX1_leads cX1_leads 7 (some .int) 1 := ⟨q1172, q125, by decide +kernel, tp_len (by decide +kernel), by decide, by decide +kernel⟩
theorem M_X1_leads : tp_Mk (tp_nm kX1_leads) (tp_by kX1_leads) (tp_ml kX1_leads) (tp_rtt kX1_leads) 1 := by rw [nm_X1_leads, by_X1_leads, lX1_leads, rt_X1_leads]; exact N_X1_leads
theorem nm_X1_prior : tp_nm kX1_prior = yX1_prior := rfl
theorem by_X1_prior : tp_by kX1_prior = cX1_prior := rfl
theorem rt_X1_prior : tp_rtt kX1_prior = (some .boolean) := rfl
theorem N_X1_prior : tp_Mk yX1_prior cX1_prior 3 (some .boolean) 2 := ⟨q1176, q125, by decide +kernel, tp_len (by decide +kernel), by decide, by decide +kernel⟩
theorem M_X1_prior : tp_Mk (tp_nm kX1_prior) (tp_by kX1_prior) (tp_ml kX1_prior) (tp_rtt kX1_prior) 2 := by rw [nm_X1_prior, by_X1_prior, lX1_prior, rt_X1_prior]; exact N_X1_prior
theorem nm_X1_isClass : tp_nm kX1_isClass = yX1_isClass := rfl
theorem by_X1_isClass : tp_by kX1_isClass = cX1_isClass := rfl
theorem rt_X1_isClass : tp_rtt kX1_isClass = (some .boolean) := rfl
theorem N_X1_isClass : tp_Mk yX1_isClass cX1_isClass 1 (some .boolean) 1 := ⟨q1179, q125, by decide +kernel, tp_len (by decide +kernel), by decide, by decide +kernel⟩
theorem M_X1_isClass : tp_Mk (tp_nm kX1_isClass) (tp_by kX1_isClass) (tp_ml kX1_isClass) (tp_rtt kX1_isClass) 1 := by rw [nm_X1_isClass, by_X1_isClass, lX1_isClass, rt_X1_isClass]; exact N_X1_isClass
theorem nm_X1_look : tp_nm kX1_look = yX1_look := rfl
theorem by_X1_look : tp_by kX1_look = cX1_look := rfl
theorem rt_X1_look : tp_rtt kX1_look = (some .int) := rfl
theorem N_X1_look : tp_Mk yX1_look cX1_look 3 (some .int) 2 := ⟨q1183, q125, by decide +kernel, tp_len (by decide +kernel), by decide, by decide +kernel⟩
theorem M_X1_look : tp_Mk (tp_nm kX1_look) (tp_by kX1_look) (tp_ml kX1_look) (tp_rtt kX1_look) 2 := by rw [nm_X1_look, by_X1_look, lX1_look, rt_X1_look]; exact N_X1_look
theorem nm_X1_think : tp_nm kX1_think = yX1_think := rfl
theorem by_X1_think : tp_by kX1_think = cX1_think := rfl
theorem rt_X1_think : tp_rtt kX1_think = (some .int) := rfl
theorem N_X1_think : tp_Mk yX1_think cX1_think 8 (some .int) 2 := ⟨q1187, q125, by decide +kernel, tp_len (by decide +kernel), by decide, by decide +kernel⟩
theorem M_X1_think : tp_Mk (tp_nm kX1_think) (tp_by kX1_think) (tp_ml kX1_think) (tp_rtt kX1_think) 2 := by rw [nm_X1_think, by_X1_think, lX1_think, rt_X1_think]; exact N_X1_think
theorem nm_X1_run : tp_nm kX1_run = yX1_run := rfl
theorem by_X1_run : tp_by kX1_run = cX1_run := rfl
theorem rt_X1_run : tp_rtt kX1_run = (some .int) := rfl
theorem N_X1_run : tp_Mk yX1_run cX1_run 5 (some .int) 4 := ⟨q1197, q125, by decide +kernel, tp_len (by decide +kernel), by decide, by decide +kernel⟩
theorem M_X1_run : tp_Mk (tp_nm kX1_run) (tp_by kX1_run) (tp_ml kX1_run) (tp_rtt kX1_run) 4 := by rw [nm_X1_run, by_X1_run, lX1_run, rt_X1_run]; exact N_X1_run
theorem nm_X1_isRun : tp_nm kX1_isRun = yX1_isRun := rfl
theorem by_X1_isRun : tp_by kX1_isRun = cX1_isRun := rfl
theorem rt_X1_isRun : tp_rtt kX1_isRun = (some .boolean) := rfl
theorem N_X1_isRun : tp_Mk yX1_isRun cX1_isRun 4 (some .boolean) 3 := ⟨q1201, q125, by decide +kernel, tp_len (by decide +kernel), by decide, by decide +kernel⟩
theorem M_X1_isRun : tp_Mk (tp_nm kX1_isRun) (tp_by kX1_isRun) (tp_ml kX1_isRun) (tp_rtt kX1_isRun) 3 := by rw [nm_X1_isRun, by_X1_isRun, lX1_isRun, rt_X1_isRun]; exact N_X1_isRun
theorem nm_X1_runs : tp_nm kX1_runs = yX1_runs := rfl
theorem by_X1_runs : tp_by kX1_runs = cX1_runs := rfl
theorem rt_X1_runs : tp_rtt kX1_runs = none := rfl
theorem N_X1_runs : tp_Mk yX1_runs cX1_runs 14 none 3 := ⟨q1205, q125, by decide +kernel, tp_len (by decide +kernel), by decide, by decide +kernel⟩
theorem M_X1_runs : tp_Mk (tp_nm kX1_runs) (tp_by kX1_runs) (tp_ml kX1_runs) (tp_rtt kX1_runs) 3 := by rw [nm_X1_runs, by_X1_runs, lX1_runs, rt_X1_runs]; exact N_X1_runs
theorem nm_X1_orderBy : tp_nm kX1_orderBy = yX1_orderBy := rfl
theorem by_X1_orderBy : tp_by kX1_orderBy = cX1_orderBy := rfl
theorem rt_X1_orderBy : tp_rtt kX1_orderBy = (some .int) := rfl
theorem N_X1_orderBy : tp_Mk yX1_orderBy cX1_orderBy 9 (some .int) 6 := ⟨q1209, q125, by decide +kernel, tp_len (by decide +kernel), by decide, by decide +kernel⟩
theorem M_X1_orderBy : tp_Mk (tp_nm kX1_orderBy) (tp_by kX1_orderBy) (tp_ml kX1_orderBy) (tp_rtt kX1_orderBy) 6 := by rw [nm_X1_orderBy, by_X1_orderBy, lX1_orderBy, rt_X1_orderBy]; exact N_X1_orderBy
theorem nm_X1_runs_2 : tp_nm kX1_runs_2 = yX1_runs_2 := rfl
theorem by_X1_runs_2 : tp_by kX1_runs_2 = cX1_runs_2 := rfl
theorem rt_X1_runs_2 : tp_rtt kX1_runs_2 = (some .int) := rfl
theorem N_X1_runs_2 : tp_Mk yX1_runs_2 cX1_runs_2 8 (some .int) 5 := ⟨q1226, q125, by decide +kernel, tp_len (by decide +kernel), by decide, by decide +kernel⟩
theorem M_X1_runs_2 : tp_Mk (tp_nm kX1_runs_2) (tp_by kX1_runs_2) (tp_ml kX1_runs_2) (tp_rtt kX1_runs_2) 5 := by rw [nm_X1_runs_2, by_X1_runs_2, lX1_runs_2, rt_X1_runs_2]; exact N_X1_runs_2
theorem nm_X1_image : tp_nm kX1_image = yX1_image := rfl
theorem by_X1_image : tp_by kX1_image = cX1_image := rfl
theorem rt_X1_image : tp_rtt kX1_image = (some .int) := rfl
theorem N_X1_image : tp_Mk yX1_image cX1_image 1 (some .int) 0 := ⟨q1230, q125, by decide +kernel, tp_len (by decide +kernel), by decide, by decide +kernel⟩
theorem M_X1_image : tp_Mk (tp_nm kX1_image) (tp_by kX1_image) (tp_ml kX1_image) (tp_rtt kX1_image) 0 := by rw [nm_X1_image, by_X1_image, lX1_image, rt_X1_image]; exact N_X1_image
theorem nm_X1_back : tp_nm kX1_back = yX1_back := rfl
theorem by_X1_back : tp_by kX1_back = cX1_back := rfl
theorem rt_X1_back : tp_rtt kX1_back = (some .int) := rfl
theorem N_X1_back : tp_Mk yX1_back cX1_back 1 (some .int) 0 := ⟨q1234, q125, by decide +kernel, tp_len (by decide +kernel), by decide, by decide +kernel⟩
theorem M_X1_back : tp_Mk (tp_nm kX1_back) (tp_by kX1_back) (tp_ml kX1_back) (tp_rtt kX1_back) 0 := by rw [nm_X1_back, by_X1_back, lX1_back, rt_X1_back]; exact N_X1_back
theorem nm_X1_about : tp_nm kX1_about = yX1_about := rfl
theorem by_X1_about : tp_by kX1_about = cX1_about := rfl
theorem rt_X1_about : tp_rtt kX1_about = (some .int) := rfl
theorem N_X1_about : tp_Mk yX1_about cX1_about 2 (some .int) 1 := ⟨q1238, q125, by decide +kernel, tp_len (by decide +kernel), by decide, by decide +kernel⟩
theorem M_X1_about : tp_Mk (tp_nm kX1_about) (tp_by kX1_about) (tp_ml kX1_about) (tp_rtt kX1_about) 1 := by rw [nm_X1_about, by_X1_about, lX1_about, rt_X1_about]; exact N_X1_about
theorem nm_X10_init : tp_nm kX10_init = yX10_init := rfl
theorem by_X10_init : tp_by kX10_init = cX10_init := rfl
theorem rt_X10_init : tp_rtt kX10_init = none := rfl
theorem N_X10_init : tp_Mk yX10_init cX10_init 2 none 1 := ⟨q692, q147, by decide +kernel, tp_len (by decide +kernel), by decide, by decide +kernel⟩
theorem M_X10_init : tp_Mk (tp_nm kX10_init) (tp_by kX10_init) (tp_ml kX10_init) (tp_rtt kX10_init) 1 := by rw [nm_X10_init, by_X10_init, lX10_init, rt_X10_init]; exact N_X10_init
theorem nm_X10_of : tp_nm kX10_of = yX10_of := rfl
theorem by_X10_of : tp_by kX10_of = cX10_of := rfl
theorem rt_X10_of : tp_rtt kX10_of = (some .long) := rfl
theorem N_X10_of : tp_Mk yX10_of cX10_of 2 (some .long) 1 := ⟨q975, q147, by decide +kernel, tp_len (by decide +kernel), by decide, by decide +kernel⟩
theorem M_X10_of : tp_Mk (tp_nm kX10_of) (tp_by kX10_of) (tp_ml kX10_of) (tp_rtt kX10_of) 1 := by rw [nm_X10_of, by_X10_of, lX10_of, rt_X10_of]; exact N_X10_of
theorem nm_X11_init : tp_nm kX11_init = yX11_init := rfl
theorem by_X11_init : tp_by kX11_init = cX11_init := rfl
theorem rt_X11_init : tp_rtt kX11_init = none := rfl
theorem N_X11_init : tp_Mk yX11_init cX11_init 2 none 1 := ⟨q706, q148, by decide +kernel, tp_len (by decide +kernel), by decide, by decide +kernel⟩
theorem M_X11_init : tp_Mk (tp_nm kX11_init) (tp_by kX11_init) (tp_ml kX11_init) (tp_rtt kX11_init) 1 := by rw [nm_X11_init, by_X11_init, lX11_init, rt_X11_init]; exact N_X11_init
theorem nm_X11_of : tp_nm kX11_of = yX11_of := rfl
theorem by_X11_of : tp_by kX11_of = cX11_of := rfl
theorem rt_X11_of : tp_rtt kX11_of = (some .long) := rfl
theorem N_X11_of : tp_Mk yX11_of cX11_of 2 (some .long) 1 := ⟨q967, q148, by decide +kernel, tp_len (by decide +kernel), by decide, by decide +kernel⟩
theorem M_X11_of : tp_Mk (tp_nm kX11_of) (tp_by kX11_of) (tp_ml kX11_of) (tp_rtt kX11_of) 1 := by rw [nm_X11_of, by_X11_of, lX11_of, rt_X11_of]; exact N_X11_of
theorem nm_X12_init : tp_nm kX12_init = yX12_init := rfl
theorem by_X12_init : tp_by kX12_init = cX12_init := rfl
theorem rt_X12_init : tp_rtt kX12_init = none := rfl
theorem N_X12_init : tp_Mk yX12_init cX12_init 4 none 3 := ⟨q821, q153, by decide +kernel, tp_len (by decide +kernel), by decide, by decide +kernel⟩
theorem M_X12_init : tp_Mk (tp_nm kX12_init) (tp_by kX12_init) (tp_ml kX12_init) (tp_rtt kX12_init) 3 := by rw [nm_X12_init, by_X12_init, lX12_init, rt_X12_init]; exact N_X12_init
theorem nm_X12_is : tp_nm kX12_is = yX12_is := rfl
theorem by_X12_is : tp_by kX12_is = cX12_is := rfl
theorem rt_X12_is : tp_rtt kX12_is = (some .boolean) := rfl
theorem N_X12_is : tp_Mk yX12_is cX12_is 4 (some .boolean) 1 := ⟨q949, q153, by decide +kernel, tp_len (by decide +kernel), by decide, by decide +kernel⟩
theorem M_X12_is : tp_Mk (tp_nm kX12_is) (tp_by kX12_is) (tp_ml kX12_is) (tp_rtt kX12_is) 1 := by rw [nm_X12_is, by_X12_is, lX12_is, rt_X12_is]; exact N_X12_is
theorem nm_X13_init : tp_nm kX13_init = yX13_init := rfl
theorem by_X13_init : tp_by kX13_init = cX13_init := rfl
theorem rt_X13_init : tp_rtt kX13_init = none := rfl
theorem N_X13_init : tp_Mk yX13_init cX13_init 3 none 2 := ⟨q855, q155, by decide +kernel, tp_len (by decide +kernel), by decide, by decide +kernel⟩
theorem M_X13_init : tp_Mk (tp_nm kX13_init) (tp_by kX13_init) (tp_ml kX13_init) (tp_rtt kX13_init) 2 := by rw [nm_X13_init, by_X13_init, lX13_init, rt_X13_init]; exact N_X13_init
theorem nm_X13_is : tp_nm kX13_is = yX13_is := rfl
theorem by_X13_is : tp_by kX13_is = cX13_is := rfl
theorem rt_X13_is : tp_rtt kX13_is = (some .boolean) := rfl
theorem N_X13_is : tp_Mk yX13_is cX13_is 4 (some .boolean) 1 := ⟨q938, q155, by decide +kernel, tp_len (by decide +kernel), by decide, by decide +kernel⟩
theorem M_X13_is : tp_Mk (tp_nm kX13_is) (tp_by kX13_is) (tp_ml kX13_is) (tp_rtt kX13_is) 1 := by rw [nm_X13_is, by_X13_is, lX13_is, rt_X13_is]; exact N_X13_is
theorem nm_X14_init : tp_nm kX14_init = yX14_init := rfl
theorem by_X14_init : tp_by kX14_init = cX14_init := rfl
theorem rt_X14_init : tp_rtt kX14_init = none := rfl
theorem N_X14_init : tp_Mk yX14_init cX14_init 3 none 2 := ⟨q868, q156, by decide +kernel, tp_len (by decide +kernel), by decide, by decide +kernel⟩
theorem M_X14_init : tp_Mk (tp_nm kX14_init) (tp_by kX14_init) (tp_ml kX14_init) (tp_rtt kX14_init) 2 := by rw [nm_X14_init, by_X14_init, lX14_init, rt_X14_init]; exact N_X14_init
theorem nm_X14_when : tp_nm kX14_when = yX14_when := rfl
theorem by_X14_when : tp_by kX14_when = cX14_when := rfl
theorem rt_X14_when : tp_rtt kX14_when = (some (.object "ThroughPack$Asked")) := rfl
theorem N_X14_when : tp_Mk yX14_when cX14_when 1 (some (.object "ThroughPack$Asked")) 0 := ⟨q1216, q156, by decide +kernel, tp_len (by decide +kernel), by decide, by decide +kernel⟩
theorem M_X14_when : tp_Mk (tp_nm kX14_when) (tp_by kX14_when) (tp_ml kX14_when) (tp_rtt kX14_when) 0 := by rw [nm_X14_when, by_X14_when, lX14_when, rt_X14_when]; exact N_X14_when
theorem nm_X14_order : tp_nm kX14_order = yX14_order := rfl
theorem by_X14_order : tp_by kX14_order = cX14_order := rfl
theorem rt_X14_order : tp_rtt kX14_order = (some .int) := rfl
theorem N_X14_order : tp_Mk yX14_order cX14_order 1 (some .int) 0 := ⟨q1222, q156, by decide +kernel, tp_len (by decide +kernel), by decide, by decide +kernel⟩
theorem M_X14_order : tp_Mk (tp_nm kX14_order) (tp_by kX14_order) (tp_ml kX14_order) (tp_rtt kX14_order) 0 := by rw [nm_X14_order, by_X14_order, lX14_order, rt_X14_order]; exact N_X14_order
theorem nm_X2_init : tp_nm kX2_init = yX2_init := rfl
theorem by_X2_init : tp_by kX2_init = cX2_init := rfl
theorem rt_X2_init : tp_rtt kX2_init = none := rfl
theorem N_X2_init : tp_Mk yX2_init cX2_init 2 none 0 := ⟨q169, q126, by decide +kernel, tp_len (by decide +kernel), by decide, by decide +kernel⟩
theorem M_X2_init : tp_Mk (tp_nm kX2_init) (tp_by kX2_init) (tp_ml kX2_init) (tp_rtt kX2_init) 0 := by rw [nm_X2_init, by_X2_init, lX2_init, rt_X2_init]; exact N_X2_init
theorem nm_X2_be : tp_nm kX2_be = yX2_be := rfl
theorem by_X2_be : tp_by kX2_be = cX2_be := rfl
theorem rt_X2_be : tp_rtt kX2_be = none := rfl
theorem N_X2_be : tp_Mk yX2_be cX2_be 2 none 1 := ⟨q246, q126, by decide +kernel, tp_len (by decide +kernel), by decide, by decide +kernel⟩
theorem M_X2_be : tp_Mk (tp_nm kX2_be) (tp_by kX2_be) (tp_ml kX2_be) (tp_rtt kX2_be) 1 := by rw [nm_X2_be, by_X2_be, lX2_be, rt_X2_be]; exact N_X2_be
theorem nm_X2_copy : tp_nm kX2_copy = yX2_copy := rfl
theorem by_X2_copy : tp_by kX2_copy = cX2_copy := rfl
theorem rt_X2_copy : tp_rtt kX2_copy = none := rfl
theorem N_X2_copy : tp_Mk yX2_copy cX2_copy 2 none 2 := ⟨q249, q126, by decide +kernel, tp_len (by decide +kernel), by decide, by decide +kernel⟩
theorem M_X2_copy : tp_Mk (tp_nm kX2_copy) (tp_by kX2_copy) (tp_ml kX2_copy) (tp_rtt kX2_copy) 2 := by rw [nm_X2_copy, by_X2_copy, lX2_copy, rt_X2_copy]; exact N_X2_copy
theorem nm_X2_copy_2 : tp_nm kX2_copy_2 = yX2_copy_2 := rfl
theorem by_X2_copy_2 : tp_by kX2_copy_2 = cX2_copy_2 := rfl
theorem rt_X2_copy_2 : tp_rtt kX2_copy_2 = none := rfl
theorem N_X2_copy_2 : tp_Mk yX2_copy_2 cX2_copy_2 3 none 2 := ⟨q255, q126, by decide +kernel, tp_len (by decide +kernel), by decide, by decide +kernel⟩
theorem M_X2_copy_2 : tp_Mk (tp_nm kX2_copy_2) (tp_by kX2_copy_2) (tp_ml kX2_copy_2) (tp_rtt kX2_copy_2) 2 := by rw [nm_X2_copy_2, by_X2_copy_2, lX2_copy_2, rt_X2_copy_2]; exact N_X2_copy_2
theorem nm_X3_init : tp_nm kX3_init = yX3_init := rfl
theorem by_X3_init : tp_by kX3_init = cX3_init := rfl
theorem rt_X3_init : tp_rtt kX3_init = none := rfl
theorem N_X3_init : tp_Mk yX3_init cX3_init 4 none 2 := ⟨q1246, q130, by decide +kernel, tp_len (by decide +kernel), by decide, by decide +kernel⟩
theorem M_X3_init : tp_Mk (tp_nm kX3_init) (tp_by kX3_init) (tp_ml kX3_init) (tp_rtt kX3_init) 2 := by rw [nm_X3_init, by_X3_init, lX3_init, rt_X3_init]; exact N_X3_init
theorem nm_X3_copyRow : tp_nm kX3_copyRow = yX3_copyRow := rfl
theorem by_X3_copyRow : tp_by kX3_copyRow = cX3_copyRow := rfl
theorem rt_X3_copyRow : tp_rtt kX3_copyRow = none := rfl
theorem N_X3_copyRow : tp_Mk yX3_copyRow cX3_copyRow 3 none 2 := ⟨q1251, q130, by decide +kernel, tp_len (by decide +kernel), by decide, by decide +kernel⟩
theorem M_X3_copyRow : tp_Mk (tp_nm kX3_copyRow) (tp_by kX3_copyRow) (tp_ml kX3_copyRow) (tp_rtt kX3_copyRow) 2 := by rw [nm_X3_copyRow, by_X3_copyRow, lX3_copyRow, rt_X3_copyRow]; exact N_X3_copyRow
theorem nm_X3_ice : tp_nm kX3_ice = yX3_ice := rfl
theorem by_X3_ice : tp_by kX3_ice = cX3_ice := rfl
theorem rt_X3_ice : tp_rtt kX3_ice = (some .boolean) := rfl
theorem N_X3_ice : tp_Mk yX3_ice cX3_ice 3 (some .boolean) 2 := ⟨q1395, q130, by decide +kernel, tp_len (by decide +kernel), by decide, by decide +kernel⟩
theorem M_X3_ice : tp_Mk (tp_nm kX3_ice) (tp_by kX3_ice) (tp_ml kX3_ice) (tp_rtt kX3_ice) 2 := by rw [nm_X3_ice, by_X3_ice, lX3_ice, rt_X3_ice]; exact N_X3_ice
theorem nm_X3_isCell : tp_nm kX3_isCell = yX3_isCell := rfl
theorem by_X3_isCell : tp_by kX3_isCell = cX3_isCell := rfl
theorem rt_X3_isCell : tp_rtt kX3_isCell = (some .boolean) := rfl
theorem N_X3_isCell : tp_Mk yX3_isCell cX3_isCell 2 (some .boolean) 1 := ⟨q1399, q130, by decide +kernel, tp_len (by decide +kernel), by decide, by decide +kernel⟩
theorem M_X3_isCell : tp_Mk (tp_nm kX3_isCell) (tp_by kX3_isCell) (tp_ml kX3_isCell) (tp_rtt kX3_isCell) 1 := by rw [nm_X3_isCell, by_X3_isCell, lX3_isCell, rt_X3_isCell]; exact N_X3_isCell
theorem nm_X3_isIn : tp_nm kX3_isIn = yX3_isIn := rfl
theorem by_X3_isIn : tp_by kX3_isIn = cX3_isIn := rfl
theorem rt_X3_isIn : tp_rtt kX3_isIn = (some .boolean) := rfl
theorem N_X3_isIn : tp_Mk yX3_isIn cX3_isIn 3 (some .boolean) 3 := ⟨q1402, q130, by decide +kernel, tp_len (by decide +kernel), by decide, by decide +kernel⟩
theorem M_X3_isIn : tp_Mk (tp_nm kX3_isIn) (tp_by kX3_isIn) (tp_ml kX3_isIn) (tp_rtt kX3_isIn) 3 := by rw [nm_X3_isIn, by_X3_isIn, lX3_isIn, rt_X3_isIn]; exact N_X3_isIn
theorem nm_X3_iceAt : tp_nm kX3_iceAt = yX3_iceAt := rfl
theorem by_X3_iceAt : tp_by kX3_iceAt = cX3_iceAt := rfl
theorem rt_X3_iceAt : tp_rtt kX3_iceAt = (some .int) := rfl
theorem N_X3_iceAt : tp_Mk yX3_iceAt cX3_iceAt 2 (some .int) 1 := ⟨q1406, q130, by decide +kernel, tp_len (by decide +kernel), by decide, by decide +kernel⟩
theorem M_X3_iceAt : tp_Mk (tp_nm kX3_iceAt) (tp_by kX3_iceAt) (tp_ml kX3_iceAt) (tp_rtt kX3_iceAt) 1 := by rw [nm_X3_iceAt, by_X3_iceAt, lX3_iceAt, rt_X3_iceAt]; exact N_X3_iceAt
theorem nm_X3_mark : tp_nm kX3_mark = yX3_mark := rfl
theorem by_X3_mark : tp_by kX3_mark = cX3_mark := rfl
theorem rt_X3_mark : tp_rtt kX3_mark = (some .boolean) := rfl
theorem N_X3_mark : tp_Mk yX3_mark cX3_mark 4 (some .boolean) 3 := ⟨q1410, q130, by decide +kernel, tp_len (by decide +kernel), by decide, by decide +kernel⟩
theorem M_X3_mark : tp_Mk (tp_nm kX3_mark) (tp_by kX3_mark) (tp_ml kX3_mark) (tp_rtt kX3_mark) 3 := by rw [nm_X3_mark, by_X3_mark, lX3_mark, rt_X3_mark]; exact N_X3_mark
theorem nm_X3_edge : tp_nm kX3_edge = yX3_edge := rfl
theorem by_X3_edge : tp_by kX3_edge = cX3_edge := rfl
theorem rt_X3_edge : tp_rtt kX3_edge = (some .boolean) := rfl
theorem N_X3_edge : tp_Mk yX3_edge cX3_edge 2 (some .boolean) 1 := ⟨q1414, q130, by decide +kernel, tp_len (by decide +kernel), by decide, by decide +kernel⟩
theorem M_X3_edge : tp_Mk (tp_nm kX3_edge) (tp_by kX3_edge) (tp_ml kX3_edge) (tp_rtt kX3_edge) 1 := by rw [nm_X3_edge, by_X3_edge, lX3_edge, rt_X3_edge]; exact N_X3_edge
theorem nm_X3_drift : tp_nm kX3_drift = yX3_drift := rfl
theorem by_X3_drift : tp_by kX3_drift = cX3_drift := rfl
theorem rt_X3_drift : tp_rtt kX3_drift = (some .boolean) := rfl
theorem N_X3_drift : tp_Mk yX3_drift cX3_drift 4 (some .boolean) 3 := ⟨q1418, q130, by decide +kernel, tp_len (by decide +kernel), by decide, by decide +kernel⟩
theorem M_X3_drift : tp_Mk (tp_nm kX3_drift) (tp_by kX3_drift) (tp_ml kX3_drift) (tp_rtt kX3_drift) 3 := by rw [nm_X3_drift, by_X3_drift, lX3_drift, rt_X3_drift]; exact N_X3_drift
theorem nm_X3_isWind : tp_nm kX3_isWind = yX3_isWind := rfl
theorem by_X3_isWind : tp_by kX3_isWind = cX3_isWind := rfl
theorem rt_X3_isWind : tp_rtt kX3_isWind = (some .boolean) := rfl
theorem N_X3_isWind : tp_Mk yX3_isWind cX3_isWind 1 (some .boolean) 1 := ⟨q1421, q130, by decide +kernel, tp_len (by decide +kernel), by decide, by decide +kernel⟩
theorem M_X3_isWind : tp_Mk (tp_nm kX3_isWind) (tp_by kX3_isWind) (tp_ml kX3_isWind) (tp_rtt kX3_isWind) 1 := by rw [nm_X3_isWind, by_X3_isWind, lX3_isWind, rt_X3_isWind]; exact N_X3_isWind
theorem nm_X3_chances : tp_nm kX3_chances = yX3_chances := rfl
theorem by_X3_chances : tp_by kX3_chances = cX3_chances := rfl
theorem rt_X3_chances : tp_rtt kX3_chances = (some .boolean) := rfl
theorem N_X3_chances : tp_Mk yX3_chances cX3_chances 6 (some .boolean) 5 := ⟨q1425, q130, by decide +kernel, tp_len (by decide +kernel), by decide, by decide +kernel⟩
theorem M_X3_chances : tp_Mk (tp_nm kX3_chances) (tp_by kX3_chances) (tp_ml kX3_chances) (tp_rtt kX3_chances) 5 := by rw [nm_X3_chances, by_X3_chances, lX3_chances, rt_X3_chances]; exact N_X3_chances
theorem nm_X3_ship : tp_nm kX3_ship = yX3_ship := rfl
theorem by_X3_ship : tp_by kX3_ship = cX3_ship := rfl
theorem rt_X3_ship : tp_rtt kX3_ship = (some .boolean) := rfl
theorem N_X3_ship : tp_Mk yX3_ship cX3_ship 4 (some .boolean) 3 := ⟨q1429, q130, by decide +kernel, tp_len (by decide +kernel), by decide, by decide +kernel⟩
theorem M_X3_ship : tp_Mk (tp_nm kX3_ship) (tp_by kX3_ship) (tp_ml kX3_ship) (tp_rtt kX3_ship) 3 := by rw [nm_X3_ship, by_X3_ship, lX3_ship, rt_X3_ship]; exact N_X3_ship
theorem nm_X3_isShip : tp_nm kX3_isShip = yX3_isShip := rfl
theorem by_X3_isShip : tp_by kX3_isShip = cX3_isShip := rfl
theorem rt_X3_isShip : tp_rtt kX3_isShip = (some .boolean) := rfl
theorem N_X3_isShip : tp_Mk yX3_isShip cX3_isShip 1 (some .boolean) 1 := ⟨q1432, q130, by decide +kernel, tp_len (by decide +kernel), by decide, by decide +kernel⟩
theorem M_X3_isShip : tp_Mk (tp_nm kX3_isShip) (tp_by kX3_isShip) (tp_ml kX3_isShip) (tp_rtt kX3_isShip) 1 := by rw [nm_X3_isShip, by_X3_isShip, lX3_isShip, rt_X3_isShip]; exact N_X3_isShip
theorem nm_X3_ofShip : tp_nm kX3_ofShip = yX3_ofShip := rfl
theorem by_X3_ofShip : tp_by kX3_ofShip = cX3_ofShip := rfl
theorem rt_X3_ofShip : tp_rtt kX3_ofShip = (some .int) := rfl
theorem N_X3_ofShip : tp_Mk yX3_ofShip cX3_ofShip 2 (some .int) 2 := ⟨q1435, q130, by decide +kernel, tp_len (by decide +kernel), by decide, by decide +kernel⟩
theorem M_X3_ofShip : tp_Mk (tp_nm kX3_ofShip) (tp_by kX3_ofShip) (tp_ml kX3_ofShip) (tp_rtt kX3_ofShip) 2 := by rw [nm_X3_ofShip, by_X3_ofShip, lX3_ofShip, rt_X3_ofShip]; exact N_X3_ofShip
theorem nm_X3_costs : tp_nm kX3_costs = yX3_costs := rfl
theorem by_X3_costs : tp_by kX3_costs = cX3_costs := rfl
theorem rt_X3_costs : tp_rtt kX3_costs = (some .boolean) := rfl
theorem N_X3_costs : tp_Mk yX3_costs cX3_costs 4 (some .boolean) 3 := ⟨q1439, q130, by decide +kernel, tp_len (by decide +kernel), by decide, by decide +kernel⟩
theorem M_X3_costs : tp_Mk (tp_nm kX3_costs) (tp_by kX3_costs) (tp_ml kX3_costs) (tp_rtt kX3_costs) 3 := by rw [nm_X3_costs, by_X3_costs, lX3_costs, rt_X3_costs]; exact N_X3_costs
theorem nm_X3_wind : tp_nm kX3_wind = yX3_wind := rfl
theorem by_X3_wind : tp_by kX3_wind = cX3_wind := rfl
theorem rt_X3_wind : tp_rtt kX3_wind = (some .boolean) := rfl
theorem N_X3_wind : tp_Mk yX3_wind cX3_wind 2 (some .boolean) 1 := ⟨q1443, q130, by decide +kernel, tp_len (by decide +kernel), by decide, by decide +kernel⟩
theorem M_X3_wind : tp_Mk (tp_nm kX3_wind) (tp_by kX3_wind) (tp_ml kX3_wind) (tp_rtt kX3_wind) 1 := by rw [nm_X3_wind, by_X3_wind, lX3_wind, rt_X3_wind]; exact N_X3_wind
theorem nm_X3_feed : tp_nm kX3_feed = yX3_feed := rfl
theorem by_X3_feed : tp_by kX3_feed = cX3_feed := rfl
theorem rt_X3_feed : tp_rtt kX3_feed = (some .int) := rfl
theorem N_X3_feed : tp_Mk yX3_feed cX3_feed 6 (some .int) 5 := ⟨q1447, q130, by decide +kernel, tp_len (by decide +kernel), by decide, by decide +kernel⟩
theorem M_X3_feed : tp_Mk (tp_nm kX3_feed) (tp_by kX3_feed) (tp_ml kX3_feed) (tp_rtt kX3_feed) 5 := by rw [nm_X3_feed, by_X3_feed, lX3_feed, rt_X3_feed]; exact N_X3_feed
theorem nm_X3_four : tp_nm kX3_four = yX3_four := rfl
theorem by_X3_four : tp_by kX3_four = cX3_four := rfl
theorem rt_X3_four : tp_rtt kX3_four = none := rfl
theorem N_X3_four : tp_Mk yX3_four cX3_four 3 none 1 := ⟨q1451, q130, by decide +kernel, tp_len (by decide +kernel), by decide, by decide +kernel⟩
theorem M_X3_four : tp_Mk (tp_nm kX3_four) (tp_by kX3_four) (tp_ml kX3_four) (tp_rtt kX3_four) 1 := by rw [nm_X3_four, by_X3_four, lX3_four, rt_X3_four]; exact N_X3_four
theorem nm_X3_end : tp_nm kX3_end = yX3_end := rfl
theorem by_X3_end : tp_by kX3_end = cX3_end := rfl
theorem rt_X3_end : tp_rtt kX3_end = (some .int) := rfl
theorem N_X3_end : tp_Mk yX3_end cX3_end 2 (some .int) 1 := ⟨q1455, q130, by decide +kernel, tp_len (by decide +kernel), by decide, by decide +kernel⟩
theorem M_X3_end : tp_Mk (tp_nm kX3_end) (tp_by kX3_end) (tp_ml kX3_end) (tp_rtt kX3_end) 1 := by rw [nm_X3_end, by_X3_end, lX3_end, rt_X3_end]; exact N_X3_end
theorem nm_X3_text : tp_nm kX3_text = yX3_text := rfl
theorem by_X3_text : tp_by kX3_text = cX3_text := rfl
theorem rt_X3_text : tp_rtt kX3_text = (some .int) := rfl
theorem N_X3_text : tp_Mk yX3_text cX3_text 1 (some .int) 0 := ⟨q1459, q130, by decide +kernel, tp_len (by decide +kernel), by decide, by decide +kernel⟩
theorem M_X3_text : tp_Mk (tp_nm kX3_text) (tp_by kX3_text) (tp_ml kX3_text) (tp_rtt kX3_text) 0 := by rw [nm_X3_text, by_X3_text, lX3_text, rt_X3_text]; exact N_X3_text
theorem nm_X3_readText : tp_nm kX3_readText = yX3_readText := rfl
theorem by_X3_readText : tp_by kX3_readText = cX3_readText := rfl
theorem rt_X3_readText : tp_rtt kX3_readText = (some .int) := rfl
theorem N_X3_readText : tp_Mk yX3_readText cX3_readText 2 (some .int) 0 := ⟨q1463, q130, by decide +kernel, tp_len (by decide +kernel), by decide, by decide +kernel⟩
theorem M_X3_readText : tp_Mk (tp_nm kX3_readText) (tp_by kX3_readText) (tp_ml kX3_readText) (tp_rtt kX3_readText) 0 := by rw [nm_X3_readText, by_X3_readText, lX3_readText, rt_X3_readText]; exact N_X3_readText
theorem nm_X3_nextToken : tp_nm kX3_nextToken = yX3_nextToken := rfl
theorem by_X3_nextToken : tp_by kX3_nextToken = cX3_nextToken := rfl
theorem rt_X3_nextToken : tp_rtt kX3_nextToken = none := rfl
theorem N_X3_nextToken : tp_Mk yX3_nextToken cX3_nextToken 3 none 0 := ⟨q1467, q130, by decide +kernel, tp_len (by decide +kernel), by decide, by decide +kernel⟩
theorem M_X3_nextToken : tp_Mk (tp_nm kX3_nextToken) (tp_by kX3_nextToken) (tp_ml kX3_nextToken) (tp_rtt kX3_nextToken) 0 := by rw [nm_X3_nextToken, by_X3_nextToken, lX3_nextToken, rt_X3_nextToken]; exact N_X3_nextToken
theorem nm_X3_byteAt : tp_nm kX3_byteAt = yX3_byteAt := rfl
theorem by_X3_byteAt : tp_by kX3_byteAt = cX3_byteAt := rfl
theorem rt_X3_byteAt : tp_rtt kX3_byteAt = (some .int) := rfl
theorem N_X3_byteAt : tp_Mk yX3_byteAt cX3_byteAt 2 (some .int) 1 := ⟨q1471, q130, by decide +kernel, tp_len (by decide +kernel), by decide, by decide +kernel⟩
theorem M_X3_byteAt : tp_Mk (tp_nm kX3_byteAt) (tp_by kX3_byteAt) (tp_ml kX3_byteAt) (tp_rtt kX3_byteAt) 1 := by rw [nm_X3_byteAt, by_X3_byteAt, lX3_byteAt, rt_X3_byteAt]; exact N_X3_byteAt
theorem nm_X3_isDigit : tp_nm kX3_isDigit = yX3_isDigit := rfl
theorem by_X3_isDigit : tp_by kX3_isDigit = cX3_isDigit := rfl
theorem rt_X3_isDigit : tp_rtt kX3_isDigit = (some .boolean) := rfl
theorem N_X3_isDigit : tp_Mk yX3_isDigit cX3_isDigit 1 (some .boolean) 1 := ⟨q1474, q130, by decide +kernel, tp_len (by decide +kernel), by decide, by decide +kernel⟩
theorem M_X3_isDigit : tp_Mk (tp_nm kX3_isDigit) (tp_by kX3_isDigit) (tp_ml kX3_isDigit) (tp_rtt kX3_isDigit) 1 := by rw [nm_X3_isDigit, by_X3_isDigit, lX3_isDigit, rt_X3_isDigit]; exact N_X3_isDigit
theorem nm_X3_isLetter : tp_nm kX3_isLetter = yX3_isLetter := rfl
theorem by_X3_isLetter : tp_by kX3_isLetter = cX3_isLetter := rfl
theorem rt_X3_isLetter : tp_rtt kX3_isLetter = (some .boolean) := rfl
theorem N_X3_isLetter : tp_Mk yX3_isLetter cX3_isLetter 1 (some .boolean) 1 := ⟨q1478, q130, by decide +kernel, tp_len (by decide +kernel), by decide, by decide +kernel⟩
theorem M_X3_isLetter : tp_Mk (tp_nm kX3_isLetter) (tp_by kX3_isLetter) (tp_ml kX3_isLetter) (tp_rtt kX3_isLetter) 1 := by rw [nm_X3_isLetter, by_X3_isLetter, lX3_isLetter, rt_X3_isLetter]; exact N_X3_isLetter
theorem nm_X3_clause : tp_nm kX3_clause = yX3_clause := rfl
theorem by_X3_clause : tp_by kX3_clause = cX3_clause := rfl
theorem rt_X3_clause : tp_rtt kX3_clause = (some .int) := rfl
theorem N_X3_clause : tp_Mk yX3_clause cX3_clause 5 (some .int) 0 := ⟨q1482, q130, by decide +kernel, tp_len (by decide +kernel), by decide, by decide +kernel⟩
theorem M_X3_clause : tp_Mk (tp_nm kX3_clause) (tp_by kX3_clause) (tp_ml kX3_clause) (tp_rtt kX3_clause) 0 := by rw [nm_X3_clause, by_X3_clause, lX3_clause, rt_X3_clause]; exact N_X3_clause
theorem nm_X3_sortOf : tp_nm kX3_sortOf = yX3_sortOf := rfl
theorem by_X3_sortOf : tp_by kX3_sortOf = cX3_sortOf := rfl
theorem rt_X3_sortOf : tp_rtt kX3_sortOf = (some .int) := rfl
theorem N_X3_sortOf : tp_Mk yX3_sortOf cX3_sortOf 1 (some .int) 0 := ⟨q1486, q130, by decide +kernel, tp_len (by decide +kernel), by decide, by decide +kernel⟩
theorem M_X3_sortOf : tp_Mk (tp_nm kX3_sortOf) (tp_by kX3_sortOf) (tp_ml kX3_sortOf) (tp_rtt kX3_sortOf) 0 := by rw [nm_X3_sortOf, by_X3_sortOf, lX3_sortOf, rt_X3_sortOf]; exact N_X3_sortOf
theorem nm_X3_w3 : tp_nm kX3_w3 = yX3_w3 := rfl
theorem by_X3_w3 : tp_by kX3_w3 = cX3_w3 := rfl
theorem rt_X3_w3 : tp_rtt kX3_w3 = (some .long) := rfl
theorem N_X3_w3 : tp_Mk yX3_w3 cX3_w3 3 (some .long) 3 := ⟨q1489, q130, by decide +kernel, tp_len (by decide +kernel), by decide, by decide +kernel⟩
theorem M_X3_w3 : tp_Mk (tp_nm kX3_w3) (tp_by kX3_w3) (tp_ml kX3_w3) (tp_rtt kX3_w3) 3 := by rw [nm_X3_w3, by_X3_w3, lX3_w3, rt_X3_w3]; exact N_X3_w3
theorem nm_X3_isWord : tp_nm kX3_isWord = yX3_isWord := rfl
theorem by_X3_isWord : tp_by kX3_isWord = cX3_isWord := rfl
theorem rt_X3_isWord : tp_rtt kX3_isWord = (some .boolean) := rfl
theorem N_X3_isWord : tp_Mk yX3_isWord cX3_isWord 3 (some .boolean) 1 := ⟨q1493, q130, by decide +kernel, tp_len (by decide +kernel), by decide, by decide +kernel⟩
theorem M_X3_isWord : tp_Mk (tp_nm kX3_isWord) (tp_by kX3_isWord) (tp_ml kX3_isWord) (tp_rtt kX3_isWord) 1 := by rw [nm_X3_isWord, by_X3_isWord, lX3_isWord, rt_X3_isWord]; exact N_X3_isWord
theorem nm_X3_w4 : tp_nm kX3_w4 = yX3_w4 := rfl
theorem by_X3_w4 : tp_by kX3_w4 = cX3_w4 := rfl
theorem rt_X3_w4 : tp_rtt kX3_w4 = (some .long) := rfl
theorem N_X3_w4 : tp_Mk yX3_w4 cX3_w4 4 (some .long) 4 := ⟨q1496, q130, by decide +kernel, tp_len (by decide +kernel), by decide, by decide +kernel⟩
theorem M_X3_w4 : tp_Mk (tp_nm kX3_w4) (tp_by kX3_w4) (tp_ml kX3_w4) (tp_rtt kX3_w4) 4 := by rw [nm_X3_w4, by_X3_w4, lX3_w4, rt_X3_w4]; exact N_X3_w4
theorem nm_X3_goesBy : tp_nm kX3_goesBy = yX3_goesBy := rfl
theorem by_X3_goesBy : tp_by kX3_goesBy = cX3_goesBy := rfl
theorem rt_X3_goesBy : tp_rtt kX3_goesBy = (some .int) := rfl
theorem N_X3_goesBy : tp_Mk yX3_goesBy cX3_goesBy 2 (some .int) 1 := ⟨q1501, q130, by decide +kernel, tp_len (by decide +kernel), by decide, by decide +kernel⟩
theorem M_X3_goesBy : tp_Mk (tp_nm kX3_goesBy) (tp_by kX3_goesBy) (tp_ml kX3_goesBy) (tp_rtt kX3_goesBy) 1 := by rw [nm_X3_goesBy, by_X3_goesBy, lX3_goesBy, rt_X3_goesBy]; exact N_X3_goesBy
theorem nm_X3_summed : tp_nm kX3_summed = yX3_summed := rfl
theorem by_X3_summed : tp_by kX3_summed = cX3_summed := rfl
theorem rt_X3_summed : tp_rtt kX3_summed = (some .int) := rfl
theorem N_X3_summed : tp_Mk yX3_summed cX3_summed 2 (some .int) 0 := ⟨q1505, q130, by decide +kernel, tp_len (by decide +kernel), by decide, by decide +kernel⟩
theorem M_X3_summed : tp_Mk (tp_nm kX3_summed) (tp_by kX3_summed) (tp_ml kX3_summed) (tp_rtt kX3_summed) 0 := by rw [nm_X3_summed, by_X3_summed, lX3_summed, rt_X3_summed]; exact N_X3_summed
theorem nm_X3_goesOn : tp_nm kX3_goesOn = yX3_goesOn := rfl
theorem by_X3_goesOn : tp_by kX3_goesOn = cX3_goesOn := rfl
theorem rt_X3_goesOn : tp_rtt kX3_goesOn = (some .boolean) := rfl
theorem N_X3_goesOn : tp_Mk yX3_goesOn cX3_goesOn 1 (some .boolean) 0 := ⟨q1509, q130, by decide +kernel, tp_len (by decide +kernel), by decide, by decide +kernel⟩
theorem M_X3_goesOn : tp_Mk (tp_nm kX3_goesOn) (tp_by kX3_goesOn) (tp_ml kX3_goesOn) (tp_rtt kX3_goesOn) 0 := by rw [nm_X3_goesOn, by_X3_goesOn, lX3_goesOn, rt_X3_goesOn]; exact N_X3_goesOn
theorem nm_X3_hasParen : tp_nm kX3_hasParen = yX3_hasParen := rfl
theorem by_X3_hasParen : tp_by kX3_hasParen = cX3_hasParen := rfl
theorem rt_X3_hasParen : tp_rtt kX3_hasParen = (some .boolean) := rfl
theorem N_X3_hasParen : tp_Mk yX3_hasParen cX3_hasParen 2 (some .boolean) 0 := ⟨q1513, q130, by decide +kernel, tp_len (by decide +kernel), by decide, by decide +kernel⟩
theorem M_X3_hasParen : tp_Mk (tp_nm kX3_hasParen) (tp_by kX3_hasParen) (tp_ml kX3_hasParen) (tp_rtt kX3_hasParen) 0 := by rw [nm_X3_hasParen, by_X3_hasParen, lX3_hasParen, rt_X3_hasParen]; exact N_X3_hasParen
theorem nm_X3_behindOne : tp_nm kX3_behindOne = yX3_behindOne := rfl
theorem by_X3_behindOne : tp_by kX3_behindOne = cX3_behindOne := rfl
theorem rt_X3_behindOne : tp_rtt kX3_behindOne = (some .int) := rfl
theorem N_X3_behindOne : tp_Mk yX3_behindOne cX3_behindOne 2 (some .int) 0 := ⟨q1517, q130, by decide +kernel, tp_len (by decide +kernel), by decide, by decide +kernel⟩
theorem M_X3_behindOne : tp_Mk (tp_nm kX3_behindOne) (tp_by kX3_behindOne) (tp_ml kX3_behindOne) (tp_rtt kX3_behindOne) 0 := by rw [nm_X3_behindOne, by_X3_behindOne, lX3_behindOne, rt_X3_behindOne]; exact N_X3_behindOne
theorem nm_X3_settle : tp_nm kX3_settle = yX3_settle := rfl
theorem by_X3_settle : tp_by kX3_settle = cX3_settle := rfl
theorem rt_X3_settle : tp_rtt kX3_settle = none := rfl
theorem N_X3_settle : tp_Mk yX3_settle cX3_settle 2 none 1 := ⟨q1521, q130, by decide +kernel, tp_len (by decide +kernel), by decide, by decide +kernel⟩
theorem M_X3_settle : tp_Mk (tp_nm kX3_settle) (tp_by kX3_settle) (tp_ml kX3_settle) (tp_rtt kX3_settle) 1 := by rw [nm_X3_settle, by_X3_settle, lX3_settle, rt_X3_settle]; exact N_X3_settle
theorem nm_X3_emit : tp_nm kX3_emit = yX3_emit := rfl
theorem by_X3_emit : tp_by kX3_emit = cX3_emit := rfl
theorem rt_X3_emit : tp_rtt kX3_emit = none := rfl
theorem N_X3_emit : tp_Mk yX3_emit cX3_emit 3 none 2 := ⟨q1525, q130, by decide +kernel, tp_len (by decide +kernel), by decide, by decide +kernel⟩
theorem M_X3_emit : tp_Mk (tp_nm kX3_emit) (tp_by kX3_emit) (tp_ml kX3_emit) (tp_rtt kX3_emit) 2 := by rw [nm_X3_emit, by_X3_emit, lX3_emit, rt_X3_emit]; exact N_X3_emit
theorem nm_X3_push : tp_nm kX3_push = yX3_push := rfl
theorem by_X3_push : tp_by kX3_push = cX3_push := rfl
theorem rt_X3_push : tp_rtt kX3_push = none := rfl
theorem N_X3_push : tp_Mk yX3_push cX3_push 2 none 1 := ⟨q1529, q130, by decide +kernel, tp_len (by decide +kernel), by decide, by decide +kernel⟩
theorem M_X3_push : tp_Mk (tp_nm kX3_push) (tp_by kX3_push) (tp_ml kX3_push) (tp_rtt kX3_push) 1 := by rw [nm_X3_push, by_X3_push, lX3_push, rt_X3_push]; exact N_X3_push
theorem nm_X3_whole : tp_nm kX3_whole = yX3_whole := rfl
theorem by_X3_whole : tp_by kX3_whole = cX3_whole := rfl
theorem rt_X3_whole : tp_rtt kX3_whole = none := rfl
theorem N_X3_whole : tp_Mk yX3_whole cX3_whole 1 none 0 := ⟨q1533, q130, by decide +kernel, tp_len (by decide +kernel), by decide, by decide +kernel⟩
theorem M_X3_whole : tp_Mk (tp_nm kX3_whole) (tp_by kX3_whole) (tp_ml kX3_whole) (tp_rtt kX3_whole) 0 := by rw [nm_X3_whole, by_X3_whole, lX3_whole, rt_X3_whole]; exact N_X3_whole
theorem nm_X3_beginOne : tp_nm kX3_beginOne = yX3_beginOne := rfl
theorem by_X3_beginOne : tp_by kX3_beginOne = cX3_beginOne := rfl
theorem rt_X3_beginOne : tp_rtt kX3_beginOne = (some .int) := rfl
theorem N_X3_beginOne : tp_Mk yX3_beginOne cX3_beginOne 2 (some .int) 0 := ⟨q1537, q130, by decide +kernel, tp_len (by decide +kernel), by decide, by decide +kernel⟩
theorem M_X3_beginOne : tp_Mk (tp_nm kX3_beginOne) (tp_by kX3_beginOne) (tp_ml kX3_beginOne) (tp_rtt kX3_beginOne) 0 := by rw [nm_X3_beginOne, by_X3_beginOne, lX3_beginOne, rt_X3_beginOne]; exact N_X3_beginOne
theorem nm_X3_nameOf : tp_nm kX3_nameOf = yX3_nameOf := rfl
theorem by_X3_nameOf : tp_by kX3_nameOf = cX3_nameOf := rfl
theorem rt_X3_nameOf : tp_rtt kX3_nameOf = (some .int) := rfl
theorem N_X3_nameOf : tp_Mk yX3_nameOf cX3_nameOf 1 (some .int) 0 := ⟨q1541, q130, by decide +kernel, tp_len (by decide +kernel), by decide, by decide +kernel⟩
theorem M_X3_nameOf : tp_Mk (tp_nm kX3_nameOf) (tp_by kX3_nameOf) (tp_ml kX3_nameOf) (tp_rtt kX3_nameOf) 0 := by rw [nm_X3_nameOf, by_X3_nameOf, lX3_nameOf, rt_X3_nameOf]; exact N_X3_nameOf
theorem nm_X3_w5 : tp_nm kX3_w5 = yX3_w5 := rfl
theorem by_X3_w5 : tp_by kX3_w5 = cX3_w5 := rfl
theorem rt_X3_w5 : tp_rtt kX3_w5 = (some .long) := rfl
theorem N_X3_w5 : tp_Mk yX3_w5 cX3_w5 5 (some .long) 5 := ⟨q1544, q130, by decide +kernel, tp_len (by decide +kernel), by decide, by decide +kernel⟩
theorem M_X3_w5 : tp_Mk (tp_nm kX3_w5) (tp_by kX3_w5) (tp_ml kX3_w5) (tp_rtt kX3_w5) 5 := by rw [nm_X3_w5, by_X3_w5, lX3_w5, rt_X3_w5]; exact N_X3_w5
theorem nm_X3_w6 : tp_nm kX3_w6 = yX3_w6 := rfl
theorem by_X3_w6 : tp_by kX3_w6 = cX3_w6 := rfl
theorem rt_X3_w6 : tp_rtt kX3_w6 = (some .long) := rfl
theorem N_X3_w6 : tp_Mk yX3_w6 cX3_w6 6 (some .long) 6 := ⟨q1549, q130, by decide +kernel, tp_len (by decide +kernel), by decide, by decide +kernel⟩
theorem M_X3_w6 : tp_Mk (tp_nm kX3_w6) (tp_by kX3_w6) (tp_ml kX3_w6) (tp_rtt kX3_w6) 6 := by rw [nm_X3_w6, by_X3_w6, lX3_w6, rt_X3_w6]; exact N_X3_w6
theorem nm_X3_isBarred : tp_nm kX3_isBarred = yX3_isBarred := rfl
theorem by_X3_isBarred : tp_by kX3_isBarred = cX3_isBarred := rfl
theorem rt_X3_isBarred : tp_rtt kX3_isBarred = (some .boolean) := rfl
theorem N_X3_isBarred : tp_Mk yX3_isBarred cX3_isBarred 2 (some .boolean) 1 := ⟨q1553, q130, by decide +kernel, tp_len (by decide +kernel), by decide, by decide +kernel⟩
theorem M_X3_isBarred : tp_Mk (tp_nm kX3_isBarred) (tp_by kX3_isBarred) (tp_ml kX3_isBarred) (tp_rtt kX3_isBarred) 1 := by rw [nm_X3_isBarred, by_X3_isBarred, lX3_isBarred, rt_X3_isBarred]; exact N_X3_isBarred
theorem nm_X3_either : tp_nm kX3_either = yX3_either := rfl
theorem by_X3_either : tp_by kX3_either = cX3_either := rfl
theorem rt_X3_either : tp_rtt kX3_either = (some .int) := rfl
theorem N_X3_either : tp_Mk yX3_either cX3_either 6 (some .int) 0 := ⟨q1557, q130, by decide +kernel, tp_len (by decide +kernel), by decide, by decide +kernel⟩
theorem M_X3_either : tp_Mk (tp_nm kX3_either) (tp_by kX3_either) (tp_ml kX3_either) (tp_rtt kX3_either) 0 := by rw [nm_X3_either, by_X3_either, lX3_either, rt_X3_either]; exact N_X3_either
theorem nm_X3_asks : tp_nm kX3_asks = yX3_asks := rfl
theorem by_X3_asks : tp_by kX3_asks = cX3_asks := rfl
theorem rt_X3_asks : tp_rtt kX3_asks = (some .int) := rfl
theorem N_X3_asks : tp_Mk yX3_asks cX3_asks 5 (some .int) 0 := ⟨q1561, q130, by decide +kernel, tp_len (by decide +kernel), by decide, by decide +kernel⟩
theorem M_X3_asks : tp_Mk (tp_nm kX3_asks) (tp_by kX3_asks) (tp_ml kX3_asks) (tp_rtt kX3_asks) 0 := by rw [nm_X3_asks, by_X3_asks, lX3_asks, rt_X3_asks]; exact N_X3_asks
theorem nm_X3_compareOf : tp_nm kX3_compareOf = yX3_compareOf := rfl
theorem by_X3_compareOf : tp_by kX3_compareOf = cX3_compareOf := rfl
theorem rt_X3_compareOf : tp_rtt kX3_compareOf = (some .int) := rfl
theorem N_X3_compareOf : tp_Mk yX3_compareOf cX3_compareOf 1 (some .int) 0 := ⟨q1565, q130, by decide +kernel, tp_len (by decide +kernel), by decide, by decide +kernel⟩
theorem M_X3_compareOf : tp_Mk (tp_nm kX3_compareOf) (tp_by kX3_compareOf) (tp_ml kX3_compareOf) (tp_rtt kX3_compareOf) 0 := by rw [nm_X3_compareOf, by_X3_compareOf, lX3_compareOf, rt_X3_compareOf]; exact N_X3_compareOf
theorem nm_X3_fault : tp_nm kX3_fault = yX3_fault := rfl
theorem by_X3_fault : tp_by kX3_fault = cX3_fault := rfl
theorem rt_X3_fault : tp_rtt kX3_fault = (some .int) := rfl
theorem N_X3_fault : tp_Mk yX3_fault cX3_fault 2 (some .int) 1 := ⟨q1570, q130, by decide +kernel, tp_len (by decide +kernel), by decide, by decide +kernel⟩
theorem M_X3_fault : tp_Mk (tp_nm kX3_fault) (tp_by kX3_fault) (tp_ml kX3_fault) (tp_rtt kX3_fault) 1 := by rw [nm_X3_fault, by_X3_fault, lX3_fault, rt_X3_fault]; exact N_X3_fault
theorem nm_X3_by : tp_nm kX3_by = yX3_by := rfl
theorem by_X3_by : tp_by kX3_by = cX3_by := rfl
theorem rt_X3_by : tp_rtt kX3_by = (some .boolean) := rfl
theorem N_X3_by : tp_Mk yX3_by cX3_by 2 (some .boolean) 1 := ⟨q1574, q130, by decide +kernel, tp_len (by decide +kernel), by decide, by decide +kernel⟩
theorem M_X3_by : tp_Mk (tp_nm kX3_by) (tp_by kX3_by) (tp_ml kX3_by) (tp_rtt kX3_by) 1 := by rw [nm_X3_by, by_X3_by, lX3_by, rt_X3_by]; exact N_X3_by
theorem nm_X3_can : tp_nm kX3_can = yX3_can := rfl
theorem by_X3_can : tp_by kX3_can = cX3_can := rfl
theorem rt_X3_can : tp_rtt kX3_can = (some .boolean) := rfl
theorem N_X3_can : tp_Mk yX3_can cX3_can 3 (some .boolean) 2 := ⟨q1578, q130, by decide +kernel, tp_len (by decide +kernel), by decide, by decide +kernel⟩
theorem M_X3_can : tp_Mk (tp_nm kX3_can) (tp_by kX3_can) (tp_ml kX3_can) (tp_rtt kX3_can) 2 := by rw [nm_X3_can, by_X3_can, lX3_can, rt_X3_can]; exact N_X3_can
theorem nm_X3_isOrder : tp_nm kX3_isOrder = yX3_isOrder := rfl
theorem by_X3_isOrder : tp_by kX3_isOrder = cX3_isOrder := rfl
theorem rt_X3_isOrder : tp_rtt kX3_isOrder = (some .boolean) := rfl
theorem N_X3_isOrder : tp_Mk yX3_isOrder cX3_isOrder 1 (some .boolean) 1 := ⟨q1581, q130, by decide +kernel, tp_len (by decide +kernel), by decide, by decide +kernel⟩
theorem M_X3_isOrder : tp_Mk (tp_nm kX3_isOrder) (tp_by kX3_isOrder) (tp_ml kX3_isOrder) (tp_rtt kX3_isOrder) 1 := by rw [nm_X3_isOrder, by_X3_isOrder, lX3_isOrder, rt_X3_isOrder]; exact N_X3_isOrder
theorem nm_X3_isFree : tp_nm kX3_isFree = yX3_isFree := rfl
theorem by_X3_isFree : tp_by kX3_isFree = cX3_isFree := rfl
theorem rt_X3_isFree : tp_rtt kX3_isFree = (some .boolean) := rfl
theorem N_X3_isFree : tp_Mk yX3_isFree cX3_isFree 2 (some .boolean) 1 := ⟨q1585, q130, by decide +kernel, tp_len (by decide +kernel), by decide, by decide +kernel⟩
theorem M_X3_isFree : tp_Mk (tp_nm kX3_isFree) (tp_by kX3_isFree) (tp_ml kX3_isFree) (tp_rtt kX3_isFree) 1 := by rw [nm_X3_isFree, by_X3_isFree, lX3_isFree, rt_X3_isFree]; exact N_X3_isFree
theorem nm_X3_layNow : tp_nm kX3_layNow = yX3_layNow := rfl
theorem by_X3_layNow : tp_by kX3_layNow = cX3_layNow := rfl
theorem rt_X3_layNow : tp_rtt kX3_layNow = none := rfl
theorem N_X3_layNow : tp_Mk yX3_layNow cX3_layNow 3 none 1 := ⟨q1589, q130, by decide +kernel, tp_len (by decide +kernel), by decide, by decide +kernel⟩
theorem M_X3_layNow : tp_Mk (tp_nm kX3_layNow) (tp_by kX3_layNow) (tp_ml kX3_layNow) (tp_rtt kX3_layNow) 1 := by rw [nm_X3_layNow, by_X3_layNow, lX3_layNow, rt_X3_layNow]; exact N_X3_layNow
theorem nm_X3_costOf : tp_nm kX3_costOf = yX3_costOf := rfl
theorem by_X3_costOf : tp_by kX3_costOf = cX3_costOf := rfl
theorem rt_X3_costOf : tp_rtt kX3_costOf = (some .int) := rfl
theorem N_X3_costOf : tp_Mk yX3_costOf cX3_costOf 4 (some .int) 3 := ⟨q1593, q130, by decide +kernel, tp_len (by decide +kernel), by decide, by decide +kernel⟩
theorem M_X3_costOf : tp_Mk (tp_nm kX3_costOf) (tp_by kX3_costOf) (tp_ml kX3_costOf) (tp_rtt kX3_costOf) 3 := by rw [nm_X3_costOf, by_X3_costOf, lX3_costOf, rt_X3_costOf]; exact N_X3_costOf
theorem nm_X3_orderCost : tp_nm kX3_orderCost = yX3_orderCost := rfl
theorem by_X3_orderCost : tp_by kX3_orderCost = cX3_orderCost := rfl
theorem rt_X3_orderCost : tp_rtt kX3_orderCost = (some .int) := rfl
theorem N_X3_orderCost : tp_Mk yX3_orderCost cX3_orderCost 9 (some .int) 7 := ⟨q1597, q130, by decide +kernel, tp_len (by decide +kernel), by decide, by decide +kernel⟩
theorem M_X3_orderCost : tp_Mk (tp_nm kX3_orderCost) (tp_by kX3_orderCost) (tp_ml kX3_orderCost) (tp_rtt kX3_orderCost) 7 := by rw [nm_X3_orderCost, by_X3_orderCost, lX3_orderCost, rt_X3_orderCost]; exact N_X3_orderCost
theorem nm_X3_pushed : tp_nm kX3_pushed = yX3_pushed := rfl
theorem by_X3_pushed : tp_by kX3_pushed = cX3_pushed := rfl
theorem rt_X3_pushed : tp_rtt kX3_pushed = (some .int) := rfl
theorem N_X3_pushed : tp_Mk yX3_pushed cX3_pushed 3 (some .int) 2 := ⟨q1601, q130, by decide +kernel, tp_len (by decide +kernel), by decide, by decide +kernel⟩
theorem M_X3_pushed : tp_Mk (tp_nm kX3_pushed) (tp_by kX3_pushed) (tp_ml kX3_pushed) (tp_rtt kX3_pushed) 2 := by rw [nm_X3_pushed, by_X3_pushed, lX3_pushed, rt_X3_pushed]; exact N_X3_pushed
theorem nm_X3_besideBy : tp_nm kX3_besideBy = yX3_besideBy := rfl
theorem by_X3_besideBy : tp_by kX3_besideBy = cX3_besideBy := rfl
theorem rt_X3_besideBy : tp_rtt kX3_besideBy = (some .int) := rfl
theorem N_X3_besideBy : tp_Mk yX3_besideBy cX3_besideBy 6 (some .int) 3 := ⟨q1605, q130, by decide +kernel, tp_len (by decide +kernel), by decide, by decide +kernel⟩
theorem M_X3_besideBy : tp_Mk (tp_nm kX3_besideBy) (tp_by kX3_besideBy) (tp_ml kX3_besideBy) (tp_rtt kX3_besideBy) 3 := by rw [nm_X3_besideBy, by_X3_besideBy, lX3_besideBy, rt_X3_besideBy]; exact N_X3_besideBy
theorem nm_X3_pushCost : tp_nm kX3_pushCost = yX3_pushCost := rfl
theorem by_X3_pushCost : tp_by kX3_pushCost = cX3_pushCost := rfl
theorem rt_X3_pushCost : tp_rtt kX3_pushCost = (some .int) := rfl
theorem N_X3_pushCost : tp_Mk yX3_pushCost cX3_pushCost 5 (some .int) 4 := ⟨q1609, q130, by decide +kernel, tp_len (by decide +kernel), by decide, by decide +kernel⟩
theorem M_X3_pushCost : tp_Mk (tp_nm kX3_pushCost) (tp_by kX3_pushCost) (tp_ml kX3_pushCost) (tp_rtt kX3_pushCost) 4 := by rw [nm_X3_pushCost, by_X3_pushCost, lX3_pushCost, rt_X3_pushCost]; exact N_X3_pushCost
theorem nm_X3_nameCell : tp_nm kX3_nameCell = yX3_nameCell := rfl
theorem by_X3_nameCell : tp_by kX3_nameCell = cX3_nameCell := rfl
theorem rt_X3_nameCell : tp_rtt kX3_nameCell = none := rfl
theorem N_X3_nameCell : tp_Mk yX3_nameCell cX3_nameCell 6 none 4 := ⟨q1613, q130, by decide +kernel, tp_len (by decide +kernel), by decide, by decide +kernel⟩
theorem M_X3_nameCell : tp_Mk (tp_nm kX3_nameCell) (tp_by kX3_nameCell) (tp_ml kX3_nameCell) (tp_rtt kX3_nameCell) 4 := by rw [nm_X3_nameCell, by_X3_nameCell, lX3_nameCell, rt_X3_nameCell]; exact N_X3_nameCell
theorem nm_X3_iceOf : tp_nm kX3_iceOf = yX3_iceOf := rfl
theorem by_X3_iceOf : tp_by kX3_iceOf = cX3_iceOf := rfl
theorem rt_X3_iceOf : tp_rtt kX3_iceOf = (some .int) := rfl
theorem N_X3_iceOf : tp_Mk yX3_iceOf cX3_iceOf 3 (some .int) 2 := ⟨q1617, q130, by decide +kernel, tp_len (by decide +kernel), by decide, by decide +kernel⟩
theorem M_X3_iceOf : tp_Mk (tp_nm kX3_iceOf) (tp_by kX3_iceOf) (tp_ml kX3_iceOf) (tp_rtt kX3_iceOf) 2 := by rw [nm_X3_iceOf, by_X3_iceOf, lX3_iceOf, rt_X3_iceOf]; exact N_X3_iceOf
theorem nm_X3_isAny : tp_nm kX3_isAny = yX3_isAny := rfl
theorem by_X3_isAny : tp_by kX3_isAny = cX3_isAny := rfl
theorem rt_X3_isAny : tp_rtt kX3_isAny = (some .boolean) := rfl
theorem N_X3_isAny : tp_Mk yX3_isAny cX3_isAny 5 (some .boolean) 2 := ⟨q1621, q130, by decide +kernel, tp_len (by decide +kernel), by decide, by decide +kernel⟩
theorem M_X3_isAny : tp_Mk (tp_nm kX3_isAny) (tp_by kX3_isAny) (tp_ml kX3_isAny) (tp_rtt kX3_isAny) 2 := by rw [nm_X3_isAny, by_X3_isAny, lX3_isAny, rt_X3_isAny]; exact N_X3_isAny
theorem nm_X3_clauses : tp_nm kX3_clauses = yX3_clauses := rfl
theorem by_X3_clauses : tp_by kX3_clauses = cX3_clauses := rfl
theorem rt_X3_clauses : tp_rtt kX3_clauses = (some .int) := rfl
theorem N_X3_clauses : tp_Mk yX3_clauses cX3_clauses 2 (some .int) 1 := ⟨q1625, q130, by decide +kernel, tp_len (by decide +kernel), by decide, by decide +kernel⟩
theorem M_X3_clauses : tp_Mk (tp_nm kX3_clauses) (tp_by kX3_clauses) (tp_ml kX3_clauses) (tp_rtt kX3_clauses) 1 := by rw [nm_X3_clauses, by_X3_clauses, lX3_clauses, rt_X3_clauses]; exact N_X3_clauses
theorem nm_X3_sortAt : tp_nm kX3_sortAt = yX3_sortAt := rfl
theorem by_X3_sortAt : tp_by kX3_sortAt = cX3_sortAt := rfl
theorem rt_X3_sortAt : tp_rtt kX3_sortAt = (some .int) := rfl
theorem N_X3_sortAt : tp_Mk yX3_sortAt cX3_sortAt 3 (some .int) 2 := ⟨q1629, q130, by decide +kernel, tp_len (by decide +kernel), by decide, by decide +kernel⟩
theorem M_X3_sortAt : tp_Mk (tp_nm kX3_sortAt) (tp_by kX3_sortAt) (tp_ml kX3_sortAt) (tp_rtt kX3_sortAt) 2 := by rw [nm_X3_sortAt, by_X3_sortAt, lX3_sortAt, rt_X3_sortAt]; exact N_X3_sortAt
theorem nm_X3_work : tp_nm kX3_work = yX3_work := rfl
theorem by_X3_work : tp_by kX3_work = cX3_work := rfl
theorem rt_X3_work : tp_rtt kX3_work = none := rfl
theorem N_X3_work : tp_Mk yX3_work cX3_work 10 none 2 := ⟨q1633, q130, by decide +kernel, tp_len (by decide +kernel), by decide, by decide +kernel⟩
theorem M_X3_work : tp_Mk (tp_nm kX3_work) (tp_by kX3_work) (tp_ml kX3_work) (tp_rtt kX3_work) 2 := by rw [nm_X3_work, by_X3_work, lX3_work, rt_X3_work]; exact N_X3_work
theorem nm_X3_two : tp_nm kX3_two = yX3_two := rfl
theorem by_X3_two : tp_by kX3_two = cX3_two := rfl
theorem rt_X3_two : tp_rtt kX3_two = (some .long) := rfl
theorem N_X3_two : tp_Mk yX3_two cX3_two 5 (some .long) 3 := ⟨q1636, q130, by decide +kernel, tp_len (by decide +kernel), by decide, by decide +kernel⟩
theorem M_X3_two : tp_Mk (tp_nm kX3_two) (tp_by kX3_two) (tp_ml kX3_two) (tp_rtt kX3_two) 3 := by rw [nm_X3_two, by_X3_two, lX3_two, rt_X3_two]; exact N_X3_two
theorem nm_X3_clip : tp_nm kX3_clip = yX3_clip := rfl
theorem by_X3_clip : tp_by kX3_clip = cX3_clip := rfl
theorem rt_X3_clip : tp_rtt kX3_clip = (some .long) := rfl
theorem N_X3_clip : tp_Mk yX3_clip cX3_clip 2 (some .long) 1 := ⟨q1639, q130, by decide +kernel, tp_len (by decide +kernel), by decide, by decide +kernel⟩
theorem M_X3_clip : tp_Mk (tp_nm kX3_clip) (tp_by kX3_clip) (tp_ml kX3_clip) (tp_rtt kX3_clip) 1 := by rw [nm_X3_clip, by_X3_clip, lX3_clip, rt_X3_clip]; exact N_X3_clip
theorem nm_X3_isAsked : tp_nm kX3_isAsked = yX3_isAsked := rfl
theorem by_X3_isAsked : tp_by kX3_isAsked = cX3_isAsked := rfl
theorem rt_X3_isAsked : tp_rtt kX3_isAsked = (some .boolean) := rfl
theorem N_X3_isAsked : tp_Mk yX3_isAsked cX3_isAsked 5 (some .boolean) 3 := ⟨q1644, q130, by decide +kernel, tp_len (by decide +kernel), by decide, by decide +kernel⟩
theorem M_X3_isAsked : tp_Mk (tp_nm kX3_isAsked) (tp_by kX3_isAsked) (tp_ml kX3_isAsked) (tp_rtt kX3_isAsked) 3 := by rw [nm_X3_isAsked, by_X3_isAsked, lX3_isAsked, rt_X3_isAsked]; exact N_X3_isAsked
theorem nm_X3_sumOf : tp_nm kX3_sumOf = yX3_sumOf := rfl
theorem by_X3_sumOf : tp_by kX3_sumOf = cX3_sumOf := rfl
theorem rt_X3_sumOf : tp_rtt kX3_sumOf = (some .int) := rfl
theorem N_X3_sumOf : tp_Mk yX3_sumOf cX3_sumOf 4 (some .int) 2 := ⟨q1648, q130, by decide +kernel, tp_len (by decide +kernel), by decide, by decide +kernel⟩
theorem M_X3_sumOf : tp_Mk (tp_nm kX3_sumOf) (tp_by kX3_sumOf) (tp_ml kX3_sumOf) (tp_rtt kX3_sumOf) 2 := by rw [nm_X3_sumOf, by_X3_sumOf, lX3_sumOf, rt_X3_sumOf]; exact N_X3_sumOf
theorem nm_X3_watch : tp_nm kX3_watch = yX3_watch := rfl
theorem by_X3_watch : tp_by kX3_watch = cX3_watch := rfl
theorem rt_X3_watch : tp_rtt kX3_watch = (some .int) := rfl
theorem N_X3_watch : tp_Mk yX3_watch cX3_watch 8 (some .int) 3 := ⟨q1653, q130, by decide +kernel, tp_len (by decide +kernel), by decide, by decide +kernel⟩
theorem M_X3_watch : tp_Mk (tp_nm kX3_watch) (tp_by kX3_watch) (tp_ml kX3_watch) (tp_rtt kX3_watch) 3 := by rw [nm_X3_watch, by_X3_watch, lX3_watch, rt_X3_watch]; exact N_X3_watch
theorem nm_X3_does : tp_nm kX3_does = yX3_does := rfl
theorem by_X3_does : tp_by kX3_does = cX3_does := rfl
theorem rt_X3_does : tp_rtt kX3_does = (some .boolean) := rfl
theorem N_X3_does : tp_Mk yX3_does cX3_does 6 (some .boolean) 3 := ⟨q1657, q130, by decide +kernel, tp_len (by decide +kernel), by decide, by decide +kernel⟩
theorem M_X3_does : tp_Mk (tp_nm kX3_does) (tp_by kX3_does) (tp_ml kX3_does) (tp_rtt kX3_does) 3 := by rw [nm_X3_does, by_X3_does, lX3_does, rt_X3_does]; exact N_X3_does
theorem nm_X3_firesBehind : tp_nm kX3_firesBehind = yX3_firesBehind := rfl
theorem by_X3_firesBehind : tp_by kX3_firesBehind = cX3_firesBehind := rfl
theorem rt_X3_firesBehind : tp_rtt kX3_firesBehind = (some .int) := rfl
theorem N_X3_firesBehind : tp_Mk yX3_firesBehind cX3_firesBehind 2 (some .int) 2 := ⟨q1660, q130, by decide +kernel, tp_len (by decide +kernel), by decide, by decide +kernel⟩
theorem M_X3_firesBehind : tp_Mk (tp_nm kX3_firesBehind) (tp_by kX3_firesBehind) (tp_ml kX3_firesBehind) (tp_rtt kX3_firesBehind) 2 := by rw [nm_X3_firesBehind, by_X3_firesBehind, lX3_firesBehind, rt_X3_firesBehind]; exact N_X3_firesBehind
theorem nm_X3_go : tp_nm kX3_go = yX3_go := rfl
theorem by_X3_go : tp_by kX3_go = cX3_go := rfl
theorem rt_X3_go : tp_rtt kX3_go = none := rfl
theorem N_X3_go : tp_Mk yX3_go cX3_go 6 none 4 := ⟨q1664, q130, by decide +kernel, tp_len (by decide +kernel), by decide, by decide +kernel⟩
theorem M_X3_go : tp_Mk (tp_nm kX3_go) (tp_by kX3_go) (tp_ml kX3_go) (tp_rtt kX3_go) 4 := by rw [nm_X3_go, by_X3_go, lX3_go, rt_X3_go]; exact N_X3_go
theorem nm_X3_driven : tp_nm kX3_driven = yX3_driven := rfl
theorem by_X3_driven : tp_by kX3_driven = cX3_driven := rfl
theorem rt_X3_driven : tp_rtt kX3_driven = (some .int) := rfl
theorem N_X3_driven : tp_Mk yX3_driven cX3_driven 4 (some .int) 3 := ⟨q1668, q130, by decide +kernel, tp_len (by decide +kernel), by decide, by decide +kernel⟩
theorem M_X3_driven : tp_Mk (tp_nm kX3_driven) (tp_by kX3_driven) (tp_ml kX3_driven) (tp_rtt kX3_driven) 3 := by rw [nm_X3_driven, by_X3_driven, lX3_driven, rt_X3_driven]; exact N_X3_driven
theorem nm_X3_floatShip : tp_nm kX3_floatShip = yX3_floatShip := rfl
theorem by_X3_floatShip : tp_by kX3_floatShip = cX3_floatShip := rfl
theorem rt_X3_floatShip : tp_rtt kX3_floatShip = none := rfl
theorem N_X3_floatShip : tp_Mk yX3_floatShip cX3_floatShip 6 none 4 := ⟨q1672, q130, by decide +kernel, tp_len (by decide +kernel), by decide, by decide +kernel⟩
theorem M_X3_floatShip : tp_Mk (tp_nm kX3_floatShip) (tp_by kX3_floatShip) (tp_ml kX3_floatShip) (tp_rtt kX3_floatShip) 4 := by rw [nm_X3_floatShip, by_X3_floatShip, lX3_floatShip, rt_X3_floatShip]; exact N_X3_floatShip
theorem nm_X3_drifted : tp_nm kX3_drifted = yX3_drifted := rfl
theorem by_X3_drifted : tp_by kX3_drifted = cX3_drifted := rfl
theorem rt_X3_drifted : tp_rtt kX3_drifted = (some .int) := rfl
theorem N_X3_drifted : tp_Mk yX3_drifted cX3_drifted 4 (some .int) 2 := ⟨q1676, q130, by decide +kernel, tp_len (by decide +kernel), by decide, by decide +kernel⟩
theorem M_X3_drifted : tp_Mk (tp_nm kX3_drifted) (tp_by kX3_drifted) (tp_ml kX3_drifted) (tp_rtt kX3_drifted) 2 := by rw [nm_X3_drifted, by_X3_drifted, lX3_drifted, rt_X3_drifted]; exact N_X3_drifted
theorem nm_X3_nips : tp_nm kX3_nips = yX3_nips := rfl
theorem by_X3_nips : tp_by kX3_nips = cX3_nips := rfl
theorem rt_X3_nips : tp_rtt kX3_nips = (some .boolean) := rfl
theorem N_X3_nips : tp_Mk yX3_nips cX3_nips 5 (some .boolean) 4 := ⟨q1680, q130, by decide +kernel, tp_len (by decide +kernel), by decide, by decide +kernel⟩
theorem M_X3_nips : tp_Mk (tp_nm kX3_nips) (tp_by kX3_nips) (tp_ml kX3_nips) (tp_rtt kX3_nips) 4 := by rw [nm_X3_nips, by_X3_nips, lX3_nips, rt_X3_nips]; exact N_X3_nips
theorem nm_X3_of : tp_nm kX3_of = yX3_of := rfl
theorem by_X3_of : tp_by kX3_of = cX3_of := rfl
theorem rt_X3_of : tp_rtt kX3_of = (some .int) := rfl
theorem N_X3_of : tp_Mk yX3_of cX3_of 3 (some .int) 2 := ⟨q1684, q130, by decide +kernel, tp_len (by decide +kernel), by decide, by decide +kernel⟩
theorem M_X3_of : tp_Mk (tp_nm kX3_of) (tp_by kX3_of) (tp_ml kX3_of) (tp_rtt kX3_of) 2 := by rw [nm_X3_of, by_X3_of, lX3_of, rt_X3_of]; exact N_X3_of
theorem nm_X3_ahead : tp_nm kX3_ahead = yX3_ahead := rfl
theorem by_X3_ahead : tp_by kX3_ahead = cX3_ahead := rfl
theorem rt_X3_ahead : tp_rtt kX3_ahead = (some .int) := rfl
theorem N_X3_ahead : tp_Mk yX3_ahead cX3_ahead 3 (some .int) 2 := ⟨q1688, q130, by decide +kernel, tp_len (by decide +kernel), by decide, by decide +kernel⟩
theorem M_X3_ahead : tp_Mk (tp_nm kX3_ahead) (tp_by kX3_ahead) (tp_ml kX3_ahead) (tp_rtt kX3_ahead) 2 := by rw [nm_X3_ahead, by_X3_ahead, lX3_ahead, rt_X3_ahead]; exact N_X3_ahead
theorem nm_X3_many : tp_nm kX3_many = yX3_many := rfl
theorem by_X3_many : tp_by kX3_many = cX3_many := rfl
theorem rt_X3_many : tp_rtt kX3_many = (some .boolean) := rfl
theorem N_X3_many : tp_Mk yX3_many cX3_many 3 (some .boolean) 2 := ⟨q1692, q130, by decide +kernel, tp_len (by decide +kernel), by decide, by decide +kernel⟩
theorem M_X3_many : tp_Mk (tp_nm kX3_many) (tp_by kX3_many) (tp_ml kX3_many) (tp_rtt kX3_many) 2 := by rw [nm_X3_many, by_X3_many, lX3_many, rt_X3_many]; exact N_X3_many
theorem nm_X3_soonest : tp_nm kX3_soonest = yX3_soonest := rfl
theorem by_X3_soonest : tp_by kX3_soonest = cX3_soonest := rfl
theorem rt_X3_soonest : tp_rtt kX3_soonest = (some .int) := rfl
theorem N_X3_soonest : tp_Mk yX3_soonest cX3_soonest 9 (some .int) 1 := ⟨q1696, q130, by decide +kernel, tp_len (by decide +kernel), by decide, by decide +kernel⟩
theorem M_X3_soonest : tp_Mk (tp_nm kX3_soonest) (tp_by kX3_soonest) (tp_ml kX3_soonest) (tp_rtt kX3_soonest) 1 := by rw [nm_X3_soonest, by_X3_soonest, lX3_soonest, rt_X3_soonest]; exact N_X3_soonest
theorem nm_X3_findOut : tp_nm kX3_findOut = yX3_findOut := rfl
theorem by_X3_findOut : tp_by kX3_findOut = cX3_findOut := rfl
theorem rt_X3_findOut : tp_rtt kX3_findOut = none := rfl
theorem N_X3_findOut : tp_Mk yX3_findOut cX3_findOut 6 none 0 := ⟨q1700, q130, by decide +kernel, tp_len (by decide +kernel), by decide, by decide +kernel⟩
theorem M_X3_findOut : tp_Mk (tp_nm kX3_findOut) (tp_by kX3_findOut) (tp_ml kX3_findOut) (tp_rtt kX3_findOut) 0 := by rw [nm_X3_findOut, by_X3_findOut, lX3_findOut, rt_X3_findOut]; exact N_X3_findOut
theorem nm_X3_look : tp_nm kX3_look = yX3_look := rfl
theorem by_X3_look : tp_by kX3_look = cX3_look := rfl
theorem rt_X3_look : tp_rtt kX3_look = none := rfl
theorem N_X3_look : tp_Mk yX3_look cX3_look 4 none 0 := ⟨q1704, q130, by decide +kernel, tp_len (by decide +kernel), by decide, by decide +kernel⟩
theorem M_X3_look : tp_Mk (tp_nm kX3_look) (tp_by kX3_look) (tp_ml kX3_look) (tp_rtt kX3_look) 0 := by rw [nm_X3_look, by_X3_look, lX3_look, rt_X3_look]; exact N_X3_look
theorem nm_X3_windBefore : tp_nm kX3_windBefore = yX3_windBefore := rfl
theorem by_X3_windBefore : tp_by kX3_windBefore = cX3_windBefore := rfl
theorem rt_X3_windBefore : tp_rtt kX3_windBefore = (some .int) := rfl
theorem N_X3_windBefore : tp_Mk yX3_windBefore cX3_windBefore 2 (some .int) 1 := ⟨q1708, q130, by decide +kernel, tp_len (by decide +kernel), by decide, by decide +kernel⟩
theorem M_X3_windBefore : tp_Mk (tp_nm kX3_windBefore) (tp_by kX3_windBefore) (tp_ml kX3_windBefore) (tp_rtt kX3_windBefore) 1 := by rw [nm_X3_windBefore, by_X3_windBefore, lX3_windBefore, rt_X3_windBefore]; exact N_X3_windBefore
theorem nm_X3_stateAt : tp_nm kX3_stateAt = yX3_stateAt := rfl
theorem by_X3_stateAt : tp_by kX3_stateAt = cX3_stateAt := rfl
theorem rt_X3_stateAt : tp_rtt kX3_stateAt = (some .int) := rfl
theorem N_X3_stateAt : tp_Mk yX3_stateAt cX3_stateAt 4 (some .int) 4 := ⟨q1711, q130, by decide +kernel, tp_len (by decide +kernel), by decide, by decide +kernel⟩
theorem M_X3_stateAt : tp_Mk (tp_nm kX3_stateAt) (tp_by kX3_stateAt) (tp_ml kX3_stateAt) (tp_rtt kX3_stateAt) 4 := by rw [nm_X3_stateAt, by_X3_stateAt, lX3_stateAt, rt_X3_stateAt]; exact N_X3_stateAt
theorem nm_X3_bestOut : tp_nm kX3_bestOut = yX3_bestOut := rfl
theorem by_X3_bestOut : tp_by kX3_bestOut = cX3_bestOut := rfl
theorem rt_X3_bestOut : tp_rtt kX3_bestOut = (some .int) := rfl
theorem N_X3_bestOut : tp_Mk yX3_bestOut cX3_bestOut 9 (some .int) 4 := ⟨q1715, q130, by decide +kernel, tp_len (by decide +kernel), by decide, by decide +kernel⟩
theorem M_X3_bestOut : tp_Mk (tp_nm kX3_bestOut) (tp_by kX3_bestOut) (tp_ml kX3_bestOut) (tp_rtt kX3_bestOut) 4 := by rw [nm_X3_bestOut, by_X3_bestOut, lX3_bestOut, rt_X3_bestOut]; exact N_X3_bestOut
theorem nm_X3_outBy : tp_nm kX3_outBy = yX3_outBy := rfl
theorem by_X3_outBy : tp_by kX3_outBy = cX3_outBy := rfl
theorem rt_X3_outBy : tp_rtt kX3_outBy = (some .int) := rfl
theorem N_X3_outBy : tp_Mk yX3_outBy cX3_outBy 9 (some .int) 5 := ⟨q1719, q130, by decide +kernel, tp_len (by decide +kernel), by decide, by decide +kernel⟩
theorem M_X3_outBy : tp_Mk (tp_nm kX3_outBy) (tp_by kX3_outBy) (tp_ml kX3_outBy) (tp_rtt kX3_outBy) 5 := by rw [nm_X3_outBy, by_X3_outBy, lX3_outBy, rt_X3_outBy]; exact N_X3_outBy
theorem nm_X3_costAhead : tp_nm kX3_costAhead = yX3_costAhead := rfl
theorem by_X3_costAhead : tp_by kX3_costAhead = cX3_costAhead := rfl
theorem rt_X3_costAhead : tp_rtt kX3_costAhead = (some .int) := rfl
theorem N_X3_costAhead : tp_Mk yX3_costAhead cX3_costAhead 8 (some .int) 5 := ⟨q1723, q130, by decide +kernel, tp_len (by decide +kernel), by decide, by decide +kernel⟩
theorem M_X3_costAhead : tp_Mk (tp_nm kX3_costAhead) (tp_by kX3_costAhead) (tp_ml kX3_costAhead) (tp_rtt kX3_costAhead) 5 := by rw [nm_X3_costAhead, by_X3_costAhead, lX3_costAhead, rt_X3_costAhead]; exact N_X3_costAhead
theorem nm_X3_cellAhead : tp_nm kX3_cellAhead = yX3_cellAhead := rfl
theorem by_X3_cellAhead : tp_by kX3_cellAhead = cX3_cellAhead := rfl
theorem rt_X3_cellAhead : tp_rtt kX3_cellAhead = (some .int) := rfl
theorem N_X3_cellAhead : tp_Mk yX3_cellAhead cX3_cellAhead 4 (some .int) 3 := ⟨q1727, q130, by decide +kernel, tp_len (by decide +kernel), by decide, by decide +kernel⟩
theorem M_X3_cellAhead : tp_Mk (tp_nm kX3_cellAhead) (tp_by kX3_cellAhead) (tp_ml kX3_cellAhead) (tp_rtt kX3_cellAhead) 3 := by rw [nm_X3_cellAhead, by_X3_cellAhead, lX3_cellAhead, rt_X3_cellAhead]; exact N_X3_cellAhead
theorem nm_X3_shipCell : tp_nm kX3_shipCell = yX3_shipCell := rfl
theorem by_X3_shipCell : tp_by kX3_shipCell = cX3_shipCell := rfl
theorem rt_X3_shipCell : tp_rtt kX3_shipCell = (some .int) := rfl
theorem N_X3_shipCell : tp_Mk yX3_shipCell cX3_shipCell 1 (some .int) 0 := ⟨q1731, q130, by decide +kernel, tp_len (by decide +kernel), by decide, by decide +kernel⟩
theorem M_X3_shipCell : tp_Mk (tp_nm kX3_shipCell) (tp_by kX3_shipCell) (tp_ml kX3_shipCell) (tp_rtt kX3_shipCell) 0 := by rw [nm_X3_shipCell, by_X3_shipCell, lX3_shipCell, rt_X3_shipCell]; exact N_X3_shipCell
theorem nm_X3_shipCoal : tp_nm kX3_shipCoal = yX3_shipCoal := rfl
theorem by_X3_shipCoal : tp_by kX3_shipCoal = cX3_shipCoal := rfl
theorem rt_X3_shipCoal : tp_rtt kX3_shipCoal = (some .int) := rfl
theorem N_X3_shipCoal : tp_Mk yX3_shipCoal cX3_shipCoal 1 (some .int) 0 := ⟨q1735, q130, by decide +kernel, tp_len (by decide +kernel), by decide, by decide +kernel⟩
theorem M_X3_shipCoal : tp_Mk (tp_nm kX3_shipCoal) (tp_by kX3_shipCoal) (tp_ml kX3_shipCoal) (tp_rtt kX3_shipCoal) 0 := by rw [nm_X3_shipCoal, by_X3_shipCoal, lX3_shipCoal, rt_X3_shipCoal]; exact N_X3_shipCoal
theorem nm_X3_shipBanked : tp_nm kX3_shipBanked = yX3_shipBanked := rfl
theorem by_X3_shipBanked : tp_by kX3_shipBanked = cX3_shipBanked := rfl
theorem rt_X3_shipBanked : tp_rtt kX3_shipBanked = (some .int) := rfl
theorem N_X3_shipBanked : tp_Mk yX3_shipBanked cX3_shipBanked 1 (some .int) 0 := ⟨q1739, q130, by decide +kernel, tp_len (by decide +kernel), by decide, by decide +kernel⟩
theorem M_X3_shipBanked : tp_Mk (tp_nm kX3_shipBanked) (tp_by kX3_shipBanked) (tp_ml kX3_shipBanked) (tp_rtt kX3_shipBanked) 0 := by rw [nm_X3_shipBanked, by_X3_shipBanked, lX3_shipBanked, rt_X3_shipBanked]; exact N_X3_shipBanked
theorem nm_X3_least : tp_nm kX3_least = yX3_least := rfl
theorem by_X3_least : tp_by kX3_least = cX3_least := rfl
theorem rt_X3_least : tp_rtt kX3_least = (some .int) := rfl
theorem N_X3_least : tp_Mk yX3_least cX3_least 2 (some .int) 0 := ⟨q1743, q130, by decide +kernel, tp_len (by decide +kernel), by decide, by decide +kernel⟩
theorem M_X3_least : tp_Mk (tp_nm kX3_least) (tp_by kX3_least) (tp_ml kX3_least) (tp_rtt kX3_least) 0 := by rw [nm_X3_least, by_X3_least, lX3_least, rt_X3_least]; exact N_X3_least
theorem nm_X3_order : tp_nm kX3_order = yX3_order := rfl
theorem by_X3_order : tp_by kX3_order = cX3_order := rfl
theorem rt_X3_order : tp_rtt kX3_order = (some .int) := rfl
theorem N_X3_order : tp_Mk yX3_order cX3_order 3 (some .int) 2 := ⟨q1747, q130, by decide +kernel, tp_len (by decide +kernel), by decide, by decide +kernel⟩
theorem M_X3_order : tp_Mk (tp_nm kX3_order) (tp_by kX3_order) (tp_ml kX3_order) (tp_rtt kX3_order) 2 := by rw [nm_X3_order, by_X3_order, lX3_order, rt_X3_order]; exact N_X3_order
theorem nm_X3_told : tp_nm kX3_told = yX3_told := rfl
theorem by_X3_told : tp_by kX3_told = cX3_told := rfl
theorem rt_X3_told : tp_rtt kX3_told = (some .int) := rfl
theorem N_X3_told : tp_Mk yX3_told cX3_told 2 (some .int) 1 := ⟨q1751, q130, by decide +kernel, tp_len (by decide +kernel), by decide, by decide +kernel⟩
theorem M_X3_told : tp_Mk (tp_nm kX3_told) (tp_by kX3_told) (tp_ml kX3_told) (tp_rtt kX3_told) 1 := by rw [nm_X3_told, by_X3_told, lX3_told, rt_X3_told]; exact N_X3_told
theorem nm_X3_follow : tp_nm kX3_follow = yX3_follow := rfl
theorem by_X3_follow : tp_by kX3_follow = cX3_follow := rfl
theorem rt_X3_follow : tp_rtt kX3_follow = none := rfl
theorem N_X3_follow : tp_Mk yX3_follow cX3_follow 6 none 0 := ⟨q1755, q130, by decide +kernel, tp_len (by decide +kernel), by decide, by decide +kernel⟩
theorem M_X3_follow : tp_Mk (tp_nm kX3_follow) (tp_by kX3_follow) (tp_ml kX3_follow) (tp_rtt kX3_follow) 0 := by rw [nm_X3_follow, by_X3_follow, lX3_follow, rt_X3_follow]; exact N_X3_follow
theorem nm_X3_home : tp_nm kX3_home = yX3_home := rfl
theorem by_X3_home : tp_by kX3_home = cX3_home := rfl
theorem rt_X3_home : tp_rtt kX3_home = (some .boolean) := rfl
theorem N_X3_home : tp_Mk yX3_home cX3_home 2 (some .boolean) 1 := ⟨q1759, q130, by decide +kernel, tp_len (by decide +kernel), by decide, by decide +kernel⟩
theorem M_X3_home : tp_Mk (tp_nm kX3_home) (tp_by kX3_home) (tp_ml kX3_home) (tp_rtt kX3_home) 1 := by rw [nm_X3_home, by_X3_home, lX3_home, rt_X3_home]; exact N_X3_home
theorem nm_X3_last : tp_nm kX3_last = yX3_last := rfl
theorem by_X3_last : tp_by kX3_last = cX3_last := rfl
theorem rt_X3_last : tp_rtt kX3_last = (some .int) := rfl
theorem N_X3_last : tp_Mk yX3_last cX3_last 5 (some .int) 0 := ⟨q1763, q130, by decide +kernel, tp_len (by decide +kernel), by decide, by decide +kernel⟩
theorem M_X3_last : tp_Mk (tp_nm kX3_last) (tp_by kX3_last) (tp_ml kX3_last) (tp_rtt kX3_last) 0 := by rw [nm_X3_last, by_X3_last, lX3_last, rt_X3_last]; exact N_X3_last
theorem nm_X3_canHome : tp_nm kX3_canHome = yX3_canHome := rfl
theorem by_X3_canHome : tp_by kX3_canHome = cX3_canHome := rfl
theorem rt_X3_canHome : tp_rtt kX3_canHome = (some .boolean) := rfl
theorem N_X3_canHome : tp_Mk yX3_canHome cX3_canHome 8 (some .boolean) 4 := ⟨q1767, q130, by decide +kernel, tp_len (by decide +kernel), by decide, by decide +kernel⟩
theorem M_X3_canHome : tp_Mk (tp_nm kX3_canHome) (tp_by kX3_canHome) (tp_ml kX3_canHome) (tp_rtt kX3_canHome) 4 := by rw [nm_X3_canHome, by_X3_canHome, lX3_canHome, rt_X3_canHome]; exact N_X3_canHome
theorem nm_X3_walk : tp_nm kX3_walk = yX3_walk := rfl
theorem by_X3_walk : tp_by kX3_walk = cX3_walk := rfl
theorem rt_X3_walk : tp_rtt kX3_walk = (some .int) := rfl
theorem N_X3_walk : tp_Mk yX3_walk cX3_walk 2 (some .int) 1 := ⟨q1771, q130, by decide +kernel, tp_len (by decide +kernel), by decide, by decide +kernel⟩
theorem M_X3_walk : tp_Mk (tp_nm kX3_walk) (tp_by kX3_walk) (tp_ml kX3_walk) (tp_rtt kX3_walk) 1 := by rw [nm_X3_walk, by_X3_walk, lX3_walk, rt_X3_walk]; exact N_X3_walk
theorem nm_X3_walkFrom : tp_nm kX3_walkFrom = yX3_walkFrom := rfl
theorem by_X3_walkFrom : tp_by kX3_walkFrom = cX3_walkFrom := rfl
theorem rt_X3_walkFrom : tp_rtt kX3_walkFrom = (some .int) := rfl
theorem N_X3_walkFrom : tp_Mk yX3_walkFrom cX3_walkFrom 5 (some .int) 2 := ⟨q1775, q130, by decide +kernel, tp_len (by decide +kernel), by decide, by decide +kernel⟩
theorem M_X3_walkFrom : tp_Mk (tp_nm kX3_walkFrom) (tp_by kX3_walkFrom) (tp_ml kX3_walkFrom) (tp_rtt kX3_walkFrom) 2 := by rw [nm_X3_walkFrom, by_X3_walkFrom, lX3_walkFrom, rt_X3_walkFrom]; exact N_X3_walkFrom
theorem nm_X3_walkOn : tp_nm kX3_walkOn = yX3_walkOn := rfl
theorem by_X3_walkOn : tp_by kX3_walkOn = cX3_walkOn := rfl
theorem rt_X3_walkOn : tp_rtt kX3_walkOn = none := rfl
theorem N_X3_walkOn : tp_Mk yX3_walkOn cX3_walkOn 5 none 1 := ⟨q1779, q130, by decide +kernel, tp_len (by decide +kernel), by decide, by decide +kernel⟩
theorem M_X3_walkOn : tp_Mk (tp_nm kX3_walkOn) (tp_by kX3_walkOn) (tp_ml kX3_walkOn) (tp_rtt kX3_walkOn) 1 := by rw [nm_X3_walkOn, by_X3_walkOn, lX3_walkOn, rt_X3_walkOn]; exact N_X3_walkOn
theorem nm_X3_walks : tp_nm kX3_walks = yX3_walks := rfl
theorem by_X3_walks : tp_by kX3_walks = cX3_walks := rfl
theorem rt_X3_walks : tp_rtt kX3_walks = (some .boolean) := rfl
theorem N_X3_walks : tp_Mk yX3_walks cX3_walks 5 (some .boolean) 4 := ⟨q1783, q130, by decide +kernel, tp_len (by decide +kernel), by decide, by decide +kernel⟩
theorem M_X3_walks : tp_Mk (tp_nm kX3_walks) (tp_by kX3_walks) (tp_ml kX3_walks) (tp_rtt kX3_walks) 4 := by rw [nm_X3_walks, by_X3_walks, lX3_walks, rt_X3_walks]; exact N_X3_walks
theorem nm_X3_leave : tp_nm kX3_leave = yX3_leave := rfl
theorem by_X3_leave : tp_by kX3_leave = cX3_leave := rfl
theorem rt_X3_leave : tp_rtt kX3_leave = (some .int) := rfl
theorem N_X3_leave : tp_Mk yX3_leave cX3_leave 2 (some .int) 0 := ⟨q1787, q130, by decide +kernel, tp_len (by decide +kernel), by decide, by decide +kernel⟩
theorem M_X3_leave : tp_Mk (tp_nm kX3_leave) (tp_by kX3_leave) (tp_ml kX3_leave) (tp_rtt kX3_leave) 0 := by rw [nm_X3_leave, by_X3_leave, lX3_leave, rt_X3_leave]; exact N_X3_leave
theorem nm_X3_winter : tp_nm kX3_winter = yX3_winter := rfl
theorem by_X3_winter : tp_by kX3_winter = cX3_winter := rfl
theorem rt_X3_winter : tp_rtt kX3_winter = (some .int) := rfl
theorem N_X3_winter : tp_Mk yX3_winter cX3_winter 4 (some .int) 1 := ⟨q1791, q130, by decide +kernel, tp_len (by decide +kernel), by decide, by decide +kernel⟩
theorem M_X3_winter : tp_Mk (tp_nm kX3_winter) (tp_by kX3_winter) (tp_ml kX3_winter) (tp_rtt kX3_winter) 1 := by rw [nm_X3_winter, by_X3_winter, lX3_winter, rt_X3_winter]; exact N_X3_winter
theorem nm_X3_winterAt : tp_nm kX3_winterAt = yX3_winterAt := rfl
theorem by_X3_winterAt : tp_by kX3_winterAt = cX3_winterAt := rfl
theorem rt_X3_winterAt : tp_rtt kX3_winterAt = (some .int) := rfl
theorem N_X3_winterAt : tp_Mk yX3_winterAt cX3_winterAt 5 (some .int) 1 := ⟨q1795, q130, by decide +kernel, tp_len (by decide +kernel), by decide, by decide +kernel⟩
theorem M_X3_winterAt : tp_Mk (tp_nm kX3_winterAt) (tp_by kX3_winterAt) (tp_ml kX3_winterAt) (tp_rtt kX3_winterAt) 1 := by rw [nm_X3_winterAt, by_X3_winterAt, lX3_winterAt, rt_X3_winterAt]; exact N_X3_winterAt
theorem nm_X3_surest : tp_nm kX3_surest = yX3_surest := rfl
theorem by_X3_surest : tp_by kX3_surest = cX3_surest := rfl
theorem rt_X3_surest : tp_rtt kX3_surest = (some .int) := rfl
theorem N_X3_surest : tp_Mk yX3_surest cX3_surest 5 (some .int) 2 := ⟨q1799, q130, by decide +kernel, tp_len (by decide +kernel), by decide, by decide +kernel⟩
theorem M_X3_surest : tp_Mk (tp_nm kX3_surest) (tp_by kX3_surest) (tp_ml kX3_surest) (tp_rtt kX3_surest) 2 := by rw [nm_X3_surest, by_X3_surest, lX3_surest, rt_X3_surest]; exact N_X3_surest
theorem nm_X3_hope : tp_nm kX3_hope = yX3_hope := rfl
theorem by_X3_hope : tp_by kX3_hope = cX3_hope := rfl
theorem rt_X3_hope : tp_rtt kX3_hope = (some .int) := rfl
theorem N_X3_hope : tp_Mk yX3_hope cX3_hope 6 (some .int) 1 := ⟨q1803, q130, by decide +kernel, tp_len (by decide +kernel), by decide, by decide +kernel⟩
theorem M_X3_hope : tp_Mk (tp_nm kX3_hope) (tp_by kX3_hope) (tp_ml kX3_hope) (tp_rtt kX3_hope) 1 := by rw [nm_X3_hope, by_X3_hope, lX3_hope, rt_X3_hope]; exact N_X3_hope
theorem nm_X3_isWayOut : tp_nm kX3_isWayOut = yX3_isWayOut := rfl
theorem by_X3_isWayOut : tp_by kX3_isWayOut = cX3_isWayOut := rfl
theorem rt_X3_isWayOut : tp_rtt kX3_isWayOut = (some .boolean) := rfl
theorem N_X3_isWayOut : tp_Mk yX3_isWayOut cX3_isWayOut 3 (some .boolean) 2 := ⟨q1807, q130, by decide +kernel, tp_len (by decide +kernel), by decide, by decide +kernel⟩
theorem M_X3_isWayOut : tp_Mk (tp_nm kX3_isWayOut) (tp_by kX3_isWayOut) (tp_ml kX3_isWayOut) (tp_rtt kX3_isWayOut) 2 := by rw [nm_X3_isWayOut, by_X3_isWayOut, lX3_isWayOut, rt_X3_isWayOut]; exact N_X3_isWayOut
theorem nm_X3_hopeBehind : tp_nm kX3_hopeBehind = yX3_hopeBehind := rfl
theorem by_X3_hopeBehind : tp_by kX3_hopeBehind = cX3_hopeBehind := rfl
theorem rt_X3_hopeBehind : tp_rtt kX3_hopeBehind = (some .int) := rfl
theorem N_X3_hopeBehind : tp_Mk yX3_hopeBehind cX3_hopeBehind 9 (some .int) 3 := ⟨q1811, q130, by decide +kernel, tp_len (by decide +kernel), by decide, by decide +kernel⟩
theorem M_X3_hopeBehind : tp_Mk (tp_nm kX3_hopeBehind) (tp_by kX3_hopeBehind) (tp_ml kX3_hopeBehind) (tp_rtt kX3_hopeBehind) 3 := by rw [nm_X3_hopeBehind, by_X3_hopeBehind, lX3_hopeBehind, rt_X3_hopeBehind]; exact N_X3_hopeBehind
theorem nm_X3_chanceOf : tp_nm kX3_chanceOf = yX3_chanceOf := rfl
theorem by_X3_chanceOf : tp_by kX3_chanceOf = cX3_chanceOf := rfl
theorem rt_X3_chanceOf : tp_rtt kX3_chanceOf = (some .int) := rfl
theorem N_X3_chanceOf : tp_Mk yX3_chanceOf cX3_chanceOf 3 (some .int) 2 := ⟨q1815, q130, by decide +kernel, tp_len (by decide +kernel), by decide, by decide +kernel⟩
theorem M_X3_chanceOf : tp_Mk (tp_nm kX3_chanceOf) (tp_by kX3_chanceOf) (tp_ml kX3_chanceOf) (tp_rtt kX3_chanceOf) 2 := by rw [nm_X3_chanceOf, by_X3_chanceOf, lX3_chanceOf, rt_X3_chanceOf]; exact N_X3_chanceOf
theorem nm_X3_behind : tp_nm kX3_behind = yX3_behind := rfl
theorem by_X3_behind : tp_by kX3_behind = cX3_behind := rfl
theorem rt_X3_behind : tp_rtt kX3_behind = (some .int) := rfl
theorem N_X3_behind : tp_Mk yX3_behind cX3_behind 4 (some .int) 3 := ⟨q1819, q130, by decide +kernel, tp_len (by decide +kernel), by decide, by decide +kernel⟩
theorem M_X3_behind : tp_Mk (tp_nm kX3_behind) (tp_by kX3_behind) (tp_ml kX3_behind) (tp_rtt kX3_behind) 3 := by rw [nm_X3_behind, by_X3_behind, lX3_behind, rt_X3_behind]; exact N_X3_behind
theorem nm_X3_hopeOne : tp_nm kX3_hopeOne = yX3_hopeOne := rfl
theorem by_X3_hopeOne : tp_by kX3_hopeOne = cX3_hopeOne := rfl
theorem rt_X3_hopeOne : tp_rtt kX3_hopeOne = (some .int) := rfl
theorem N_X3_hopeOne : tp_Mk yX3_hopeOne cX3_hopeOne 8 (some .int) 6 := ⟨q1823, q130, by decide +kernel, tp_len (by decide +kernel), by decide, by decide +kernel⟩
theorem M_X3_hopeOne : tp_Mk (tp_nm kX3_hopeOne) (tp_by kX3_hopeOne) (tp_ml kX3_hopeOne) (tp_rtt kX3_hopeOne) 6 := by rw [nm_X3_hopeOne, by_X3_hopeOne, lX3_hopeOne, rt_X3_hopeOne]; exact N_X3_hopeOne
theorem nm_X3_hopeTwo : tp_nm kX3_hopeTwo = yX3_hopeTwo := rfl
theorem by_X3_hopeTwo : tp_by kX3_hopeTwo = cX3_hopeTwo := rfl
theorem rt_X3_hopeTwo : tp_rtt kX3_hopeTwo = (some .int) := rfl
theorem N_X3_hopeTwo : tp_Mk yX3_hopeTwo cX3_hopeTwo 14 (some .int) 7 := ⟨q1827, q130, by decide +kernel, tp_len (by decide +kernel), by decide, by decide +kernel⟩
theorem M_X3_hopeTwo : tp_Mk (tp_nm kX3_hopeTwo) (tp_by kX3_hopeTwo) (tp_ml kX3_hopeTwo) (tp_rtt kX3_hopeTwo) 7 := by rw [nm_X3_hopeTwo, by_X3_hopeTwo, lX3_hopeTwo, rt_X3_hopeTwo]; exact N_X3_hopeTwo
theorem nm_X3_known : tp_nm kX3_known = yX3_known := rfl
theorem by_X3_known : tp_by kX3_known = cX3_known := rfl
theorem rt_X3_known : tp_rtt kX3_known = (some .int) := rfl
theorem N_X3_known : tp_Mk yX3_known cX3_known 8 (some .int) 1 := ⟨q1831, q130, by decide +kernel, tp_len (by decide +kernel), by decide, by decide +kernel⟩
theorem M_X3_known : tp_Mk (tp_nm kX3_known) (tp_by kX3_known) (tp_ml kX3_known) (tp_rtt kX3_known) 1 := by rw [nm_X3_known, by_X3_known, lX3_known, rt_X3_known]; exact N_X3_known
theorem nm_X3_leads : tp_nm kX3_leads = yX3_leads := rfl
theorem by_X3_leads : tp_by kX3_leads = cX3_leads := rfl
theorem rt_X3_leads : tp_rtt kX3_leads = (some .int) := rfl
theorem N_X3_leads : tp_Mk yX3_leads cX3_leads 7 (some .int) 1 := ⟨q1835, q130, by decide +kernel, tp_len (by decide +kernel), by decide, by decide +kernel⟩
theorem M_X3_leads : tp_Mk (tp_nm kX3_leads) (tp_by kX3_leads) (tp_ml kX3_leads) (tp_rtt kX3_leads) 1 := by rw [nm_X3_leads, by_X3_leads, lX3_leads, rt_X3_leads]; exact N_X3_leads
theorem nm_X3_prior : tp_nm kX3_prior = yX3_prior := rfl
theorem by_X3_prior : tp_by kX3_prior = cX3_prior := rfl
theorem rt_X3_prior : tp_rtt kX3_prior = (some .boolean) := rfl
theorem N_X3_prior : tp_Mk yX3_prior cX3_prior 3 (some .boolean) 2 := ⟨q1839, q130, by decide +kernel, tp_len (by decide +kernel), by decide, by decide +kernel⟩
theorem M_X3_prior : tp_Mk (tp_nm kX3_prior) (tp_by kX3_prior) (tp_ml kX3_prior) (tp_rtt kX3_prior) 2 := by rw [nm_X3_prior, by_X3_prior, lX3_prior, rt_X3_prior]; exact N_X3_prior
theorem nm_X3_look_2 : tp_nm kX3_look_2 = yX3_look_2 := rfl
theorem by_X3_look_2 : tp_by kX3_look_2 = cX3_look_2 := rfl
theorem rt_X3_look_2 : tp_rtt kX3_look_2 = (some .int) := rfl
theorem N_X3_look_2 : tp_Mk yX3_look_2 cX3_look_2 3 (some .int) 2 := ⟨q1843, q130, by decide +kernel, tp_len (by decide +kernel), by decide, by decide +kernel⟩
theorem M_X3_look_2 : tp_Mk (tp_nm kX3_look_2) (tp_by kX3_look_2) (tp_ml kX3_look_2) (tp_rtt kX3_look_2) 2 := by rw [nm_X3_look_2, by_X3_look_2, lX3_look_2, rt_X3_look_2]; exact N_X3_look_2
theorem nm_X3_think : tp_nm kX3_think = yX3_think := rfl
theorem by_X3_think : tp_by kX3_think = cX3_think := rfl
theorem rt_X3_think : tp_rtt kX3_think = (some .int) := rfl
theorem N_X3_think : tp_Mk yX3_think cX3_think 7 (some .int) 2 := ⟨q1847, q130, by decide +kernel, tp_len (by decide +kernel), by decide, by decide +kernel⟩
theorem M_X3_think : tp_Mk (tp_nm kX3_think) (tp_by kX3_think) (tp_ml kX3_think) (tp_rtt kX3_think) 2 := by rw [nm_X3_think, by_X3_think, lX3_think, rt_X3_think]; exact N_X3_think
theorem nm_X3_weigh : tp_nm kX3_weigh = yX3_weigh := rfl
theorem by_X3_weigh : tp_by kX3_weigh = cX3_weigh := rfl
theorem rt_X3_weigh : tp_rtt kX3_weigh = (some .long) := rfl
theorem N_X3_weigh : tp_Mk yX3_weigh cX3_weigh 8 (some .long) 2 := ⟨q1851, q130, by decide +kernel, tp_len (by decide +kernel), by decide, by decide +kernel⟩
theorem M_X3_weigh : tp_Mk (tp_nm kX3_weigh) (tp_by kX3_weigh) (tp_ml kX3_weigh) (tp_rtt kX3_weigh) 2 := by rw [nm_X3_weigh, by_X3_weigh, lX3_weigh, rt_X3_weigh]; exact N_X3_weigh
theorem nm_X3_run : tp_nm kX3_run = yX3_run := rfl
theorem by_X3_run : tp_by kX3_run = cX3_run := rfl
theorem rt_X3_run : tp_rtt kX3_run = (some .int) := rfl
theorem N_X3_run : tp_Mk yX3_run cX3_run 5 (some .int) 4 := ⟨q1857, q130, by decide +kernel, tp_len (by decide +kernel), by decide, by decide +kernel⟩
theorem M_X3_run : tp_Mk (tp_nm kX3_run) (tp_by kX3_run) (tp_ml kX3_run) (tp_rtt kX3_run) 4 := by rw [nm_X3_run, by_X3_run, lX3_run, rt_X3_run]; exact N_X3_run
theorem nm_X3_isText : tp_nm kX3_isText = yX3_isText := rfl
theorem by_X3_isText : tp_by kX3_isText = cX3_isText := rfl
theorem rt_X3_isText : tp_rtt kX3_isText = (some .boolean) := rfl
theorem N_X3_isText : tp_Mk yX3_isText cX3_isText 2 (some .boolean) 1 := ⟨q1861, q130, by decide +kernel, tp_len (by decide +kernel), by decide, by decide +kernel⟩
theorem M_X3_isText : tp_Mk (tp_nm kX3_isText) (tp_by kX3_isText) (tp_ml kX3_isText) (tp_rtt kX3_isText) 1 := by rw [nm_X3_isText, by_X3_isText, lX3_isText, rt_X3_isText]; exact N_X3_isText
theorem nm_X3_runAll : tp_nm kX3_runAll = yX3_runAll := rfl
theorem by_X3_runAll : tp_by kX3_runAll = cX3_runAll := rfl
theorem rt_X3_runAll : tp_rtt kX3_runAll = none := rfl
theorem N_X3_runAll : tp_Mk yX3_runAll cX3_runAll 6 none 3 := ⟨q1865, q130, by decide +kernel, tp_len (by decide +kernel), by decide, by decide +kernel⟩
theorem M_X3_runAll : tp_Mk (tp_nm kX3_runAll) (tp_by kX3_runAll) (tp_ml kX3_runAll) (tp_rtt kX3_runAll) 3 := by rw [nm_X3_runAll, by_X3_runAll, lX3_runAll, rt_X3_runAll]; exact N_X3_runAll
theorem nm_X3_orderBy : tp_nm kX3_orderBy = yX3_orderBy := rfl
theorem by_X3_orderBy : tp_by kX3_orderBy = cX3_orderBy := rfl
theorem rt_X3_orderBy : tp_rtt kX3_orderBy = (some .int) := rfl
theorem N_X3_orderBy : tp_Mk yX3_orderBy cX3_orderBy 4 (some .int) 1 := ⟨q1869, q130, by decide +kernel, tp_len (by decide +kernel), by decide, by decide +kernel⟩
theorem M_X3_orderBy : tp_Mk (tp_nm kX3_orderBy) (tp_by kX3_orderBy) (tp_ml kX3_orderBy) (tp_rtt kX3_orderBy) 1 := by rw [nm_X3_orderBy, by_X3_orderBy, lX3_orderBy, rt_X3_orderBy]; exact N_X3_orderBy
theorem nm_X3_canRun : tp_nm kX3_canRun = yX3_canRun := rfl
theorem by_X3_canRun : tp_by kX3_canRun = cX3_canRun := rfl
theorem rt_X3_canRun : tp_rtt kX3_canRun = (some .boolean) := rfl
theorem N_X3_canRun : tp_Mk yX3_canRun cX3_canRun 2 (some .boolean) 1 := ⟨q1873, q130, by decide +kernel, tp_len (by decide +kernel), by decide, by decide +kernel⟩
theorem M_X3_canRun : tp_Mk (tp_nm kX3_canRun) (tp_by kX3_canRun) (tp_ml kX3_canRun) (tp_rtt kX3_canRun) 1 := by rw [nm_X3_canRun, by_X3_canRun, lX3_canRun, rt_X3_canRun]; exact N_X3_canRun
theorem nm_X3_drawWind : tp_nm kX3_drawWind = yX3_drawWind := rfl
theorem by_X3_drawWind : tp_by kX3_drawWind = cX3_drawWind := rfl
theorem rt_X3_drawWind : tp_rtt kX3_drawWind = (some .int) := rfl
theorem N_X3_drawWind : tp_Mk yX3_drawWind cX3_drawWind 4 (some .int) 1 := ⟨q1877, q130, by decide +kernel, tp_len (by decide +kernel), by decide, by decide +kernel⟩
theorem M_X3_drawWind : tp_Mk (tp_nm kX3_drawWind) (tp_by kX3_drawWind) (tp_ml kX3_drawWind) (tp_rtt kX3_drawWind) 1 := by rw [nm_X3_drawWind, by_X3_drawWind, lX3_drawWind, rt_X3_drawWind]; exact N_X3_drawWind
theorem nm_X3_runOne : tp_nm kX3_runOne = yX3_runOne := rfl
theorem by_X3_runOne : tp_by kX3_runOne = cX3_runOne := rfl
theorem rt_X3_runOne : tp_rtt kX3_runOne = none := rfl
theorem N_X3_runOne : tp_Mk yX3_runOne cX3_runOne 5 none 2 := ⟨q1881, q130, by decide +kernel, tp_len (by decide +kernel), by decide, by decide +kernel⟩
theorem M_X3_runOne : tp_Mk (tp_nm kX3_runOne) (tp_by kX3_runOne) (tp_ml kX3_runOne) (tp_rtt kX3_runOne) 2 := by rw [nm_X3_runOne, by_X3_runOne, lX3_runOne, rt_X3_runOne]; exact N_X3_runOne
theorem nm_X3_runs : tp_nm kX3_runs = yX3_runs := rfl
theorem by_X3_runs : tp_by kX3_runs = cX3_runs := rfl
theorem rt_X3_runs : tp_rtt kX3_runs = (some .int) := rfl
theorem N_X3_runs : tp_Mk yX3_runs cX3_runs 8 (some .int) 5 := ⟨q1885, q130, by decide +kernel, tp_len (by decide +kernel), by decide, by decide +kernel⟩
theorem M_X3_runs : tp_Mk (tp_nm kX3_runs) (tp_by kX3_runs) (tp_ml kX3_runs) (tp_rtt kX3_runs) 5 := by rw [nm_X3_runs, by_X3_runs, lX3_runs, rt_X3_runs]; exact N_X3_runs
theorem nm_X3_image : tp_nm kX3_image = yX3_image := rfl
theorem by_X3_image : tp_by kX3_image = cX3_image := rfl
theorem rt_X3_image : tp_rtt kX3_image = (some .int) := rfl
theorem N_X3_image : tp_Mk yX3_image cX3_image 1 (some .int) 0 := ⟨q1889, q130, by decide +kernel, tp_len (by decide +kernel), by decide, by decide +kernel⟩
theorem M_X3_image : tp_Mk (tp_nm kX3_image) (tp_by kX3_image) (tp_ml kX3_image) (tp_rtt kX3_image) 0 := by rw [nm_X3_image, by_X3_image, lX3_image, rt_X3_image]; exact N_X3_image
theorem nm_X3_back : tp_nm kX3_back = yX3_back := rfl
theorem by_X3_back : tp_by kX3_back = cX3_back := rfl
theorem rt_X3_back : tp_rtt kX3_back = (some .int) := rfl
theorem N_X3_back : tp_Mk yX3_back cX3_back 1 (some .int) 0 := ⟨q1893, q130, by decide +kernel, tp_len (by decide +kernel), by decide, by decide +kernel⟩
theorem M_X3_back : tp_Mk (tp_nm kX3_back) (tp_by kX3_back) (tp_ml kX3_back) (tp_rtt kX3_back) 0 := by rw [nm_X3_back, by_X3_back, lX3_back, rt_X3_back]; exact N_X3_back
theorem nm_X3_about : tp_nm kX3_about = yX3_about := rfl
theorem by_X3_about : tp_by kX3_about = cX3_about := rfl
theorem rt_X3_about : tp_rtt kX3_about = (some .int) := rfl
theorem N_X3_about : tp_Mk yX3_about cX3_about 2 (some .int) 1 := ⟨q1897, q130, by decide +kernel, tp_len (by decide +kernel), by decide, by decide +kernel⟩
theorem M_X3_about : tp_Mk (tp_nm kX3_about) (tp_by kX3_about) (tp_ml kX3_about) (tp_rtt kX3_about) 1 := by rw [nm_X3_about, by_X3_about, lX3_about, rt_X3_about]; exact N_X3_about
theorem nm_X4_init : tp_nm kX4_init = yX4_init := rfl
theorem by_X4_init : tp_by kX4_init = cX4_init := rfl
theorem rt_X4_init : tp_rtt kX4_init = none := rfl
theorem N_X4_init : tp_Mk yX4_init cX4_init 3 none 2 := ⟨q395, q131, by decide +kernel, tp_len (by decide +kernel), by decide, by decide +kernel⟩
theorem M_X4_init : tp_Mk (tp_nm kX4_init) (tp_by kX4_init) (tp_ml kX4_init) (tp_rtt kX4_init) 2 := by rw [nm_X4_init, by_X4_init, lX4_init, rt_X4_init]; exact N_X4_init
theorem nm_X4_read : tp_nm kX4_read = yX4_read := rfl
theorem by_X4_read : tp_by kX4_read = cX4_read := rfl
theorem rt_X4_read : tp_rtt kX4_read = (some (.object "ThroughPack$Text")) := rfl
theorem N_X4_read : tp_Mk yX4_read cX4_read 2 (some (.object "ThroughPack$Text")) 0 := ⟨q425, q131, by decide +kernel, tp_len (by decide +kernel), by decide, by decide +kernel⟩
theorem M_X4_read : tp_Mk (tp_nm kX4_read) (tp_by kX4_read) (tp_ml kX4_read) (tp_rtt kX4_read) 0 := by rw [nm_X4_read, by_X4_read, lX4_read, rt_X4_read]; exact N_X4_read
theorem nm_X4_next : tp_nm kX4_next = yX4_next := rfl
theorem by_X4_next : tp_by kX4_next = cX4_next := rfl
theorem rt_X4_next : tp_rtt kX4_next = none := rfl
theorem N_X4_next : tp_Mk yX4_next cX4_next 3 none 0 := ⟨q493, q131, by decide +kernel, tp_len (by decide +kernel), by decide, by decide +kernel⟩
theorem M_X4_next : tp_Mk (tp_nm kX4_next) (tp_by kX4_next) (tp_ml kX4_next) (tp_rtt kX4_next) 0 := by rw [nm_X4_next, by_X4_next, lX4_next, rt_X4_next]; exact N_X4_next
theorem nm_X4_isLetter : tp_nm kX4_isLetter = yX4_isLetter := rfl
theorem by_X4_isLetter : tp_by kX4_isLetter = cX4_isLetter := rfl
theorem rt_X4_isLetter : tp_rtt kX4_isLetter = (some .boolean) := rfl
theorem N_X4_isLetter : tp_Mk yX4_isLetter cX4_isLetter 1 (some .boolean) 1 := ⟨q496, q131, by decide +kernel, tp_len (by decide +kernel), by decide, by decide +kernel⟩
theorem M_X4_isLetter : tp_Mk (tp_nm kX4_isLetter) (tp_by kX4_isLetter) (tp_ml kX4_isLetter) (tp_rtt kX4_isLetter) 1 := by rw [nm_X4_isLetter, by_X4_isLetter, lX4_isLetter, rt_X4_isLetter]; exact N_X4_isLetter
theorem nm_X4_isWord : tp_nm kX4_isWord = yX4_isWord := rfl
theorem by_X4_isWord : tp_by kX4_isWord = cX4_isWord := rfl
theorem rt_X4_isWord : tp_rtt kX4_isWord = (some .boolean) := rfl
theorem N_X4_isWord : tp_Mk yX4_isWord cX4_isWord 3 (some .boolean) 1 := ⟨q502, q131, by decide +kernel, tp_len (by decide +kernel), by decide, by decide +kernel⟩
theorem M_X4_isWord : tp_Mk (tp_nm kX4_isWord) (tp_by kX4_isWord) (tp_ml kX4_isWord) (tp_rtt kX4_isWord) 1 := by rw [nm_X4_isWord, by_X4_isWord, lX4_isWord, rt_X4_isWord]; exact N_X4_isWord
theorem nm_X4_isDigit : tp_nm kX4_isDigit = yX4_isDigit := rfl
theorem by_X4_isDigit : tp_by kX4_isDigit = cX4_isDigit := rfl
theorem rt_X4_isDigit : tp_rtt kX4_isDigit = (some .boolean) := rfl
theorem N_X4_isDigit : tp_Mk yX4_isDigit cX4_isDigit 1 (some .boolean) 1 := ⟨q553, q131, by decide +kernel, tp_len (by decide +kernel), by decide, by decide +kernel⟩
theorem M_X4_isDigit : tp_Mk (tp_nm kX4_isDigit) (tp_by kX4_isDigit) (tp_ml kX4_isDigit) (tp_rtt kX4_isDigit) 1 := by rw [nm_X4_isDigit, by_X4_isDigit, lX4_isDigit, rt_X4_isDigit]; exact N_X4_isDigit
theorem nm_X4_wrong : tp_nm kX4_wrong = yX4_wrong := rfl
theorem by_X4_wrong : tp_by kX4_wrong = cX4_wrong := rfl
theorem rt_X4_wrong : tp_rtt kX4_wrong = (some (.object "ThroughPack$Wrong")) := rfl
theorem N_X4_wrong : tp_Mk yX4_wrong cX4_wrong 2 (some (.object "ThroughPack$Wrong")) 1 := ⟨q560, q131, by decide +kernel, tp_len (by decide +kernel), by decide, by decide +kernel⟩
theorem M_X4_wrong : tp_Mk (tp_nm kX4_wrong) (tp_by kX4_wrong) (tp_ml kX4_wrong) (tp_rtt kX4_wrong) 1 := by rw [nm_X4_wrong, by_X4_wrong, lX4_wrong, rt_X4_wrong]; exact N_X4_wrong
theorem nm_X4_clause : tp_nm kX4_clause = yX4_clause := rfl
theorem by_X4_clause : tp_by kX4_clause = cX4_clause := rfl
theorem rt_X4_clause : tp_rtt kX4_clause = none := rfl
theorem N_X4_clause : tp_Mk yX4_clause cX4_clause 3 none 1 := ⟨q628, q131, by decide +kernel, tp_len (by decide +kernel), by decide, by decide +kernel⟩
theorem M_X4_clause : tp_Mk (tp_nm kX4_clause) (tp_by kX4_clause) (tp_ml kX4_clause) (tp_rtt kX4_clause) 1 := by rw [nm_X4_clause, by_X4_clause, lX4_clause, rt_X4_clause]; exact N_X4_clause
theorem nm_X4_either : tp_nm kX4_either = yX4_either := rfl
theorem by_X4_either : tp_by kX4_either = cX4_either := rfl
theorem rt_X4_either : tp_rtt kX4_either = (some (.object "ThroughPack$Asked")) := rfl
theorem N_X4_either : tp_Mk yX4_either cX4_either 2 (some (.object "ThroughPack$Asked")) 0 := ⟨q632, q131, by decide +kernel, tp_len (by decide +kernel), by decide, by decide +kernel⟩
theorem M_X4_either : tp_Mk (tp_nm kX4_either) (tp_by kX4_either) (tp_ml kX4_either) (tp_rtt kX4_either) 0 := by rw [nm_X4_either, by_X4_either, lX4_either, rt_X4_either]; exact N_X4_either
theorem nm_X4_both : tp_nm kX4_both = yX4_both := rfl
theorem by_X4_both : tp_by kX4_both = cX4_both := rfl
theorem rt_X4_both : tp_rtt kX4_both = (some (.object "ThroughPack$Asked")) := rfl
theorem N_X4_both : tp_Mk yX4_both cX4_both 2 (some (.object "ThroughPack$Asked")) 0 := ⟨q638, q131, by decide +kernel, tp_len (by decide +kernel), by decide, by decide +kernel⟩
theorem M_X4_both : tp_Mk (tp_nm kX4_both) (tp_by kX4_both) (tp_ml kX4_both) (tp_rtt kX4_both) 0 := by rw [nm_X4_both, by_X4_both, lX4_both, rt_X4_both]; exact N_X4_both
theorem nm_X4_ask : tp_nm kX4_ask = yX4_ask := rfl
theorem by_X4_ask : tp_by kX4_ask = cX4_ask := rfl
theorem rt_X4_ask : tp_rtt kX4_ask = (some (.object "ThroughPack$Asked")) := rfl
theorem N_X4_ask : tp_Mk yX4_ask cX4_ask 3 (some (.object "ThroughPack$Asked")) 0 := ⟨q642, q131, by decide +kernel, tp_len (by decide +kernel), by decide, by decide +kernel⟩
theorem M_X4_ask : tp_Mk (tp_nm kX4_ask) (tp_by kX4_ask) (tp_ml kX4_ask) (tp_rtt kX4_ask) 0 := by rw [nm_X4_ask, by_X4_ask, lX4_ask, rt_X4_ask]; exact N_X4_ask
theorem nm_X4_opens : tp_nm kX4_opens = yX4_opens := rfl
theorem by_X4_opens : tp_by kX4_opens = cX4_opens := rfl
theorem rt_X4_opens : tp_rtt kX4_opens = none := rfl
theorem N_X4_opens : tp_Mk yX4_opens cX4_opens 1 none 0 := ⟨q646, q131, by decide +kernel, tp_len (by decide +kernel), by decide, by decide +kernel⟩
theorem M_X4_opens : tp_Mk (tp_nm kX4_opens) (tp_by kX4_opens) (tp_ml kX4_opens) (tp_rtt kX4_opens) 0 := by rw [nm_X4_opens, by_X4_opens, lX4_opens, rt_X4_opens]; exact N_X4_opens
theorem nm_X4_sum : tp_nm kX4_sum = yX4_sum := rfl
theorem by_X4_sum : tp_by kX4_sum = cX4_sum := rfl
theorem rt_X4_sum : tp_rtt kX4_sum = (some (.object "ThroughPack$Sum")) := rfl
theorem N_X4_sum : tp_Mk yX4_sum cX4_sum 3 (some (.object "ThroughPack$Sum")) 0 := ⟨q663, q131, by decide +kernel, tp_len (by decide +kernel), by decide, by decide +kernel⟩
theorem M_X4_sum : tp_Mk (tp_nm kX4_sum) (tp_by kX4_sum) (tp_ml kX4_sum) (tp_rtt kX4_sum) 0 := by rw [nm_X4_sum, by_X4_sum, lX4_sum, rt_X4_sum]; exact N_X4_sum
theorem nm_X4_product : tp_nm kX4_product = yX4_product := rfl
theorem by_X4_product : tp_by kX4_product = cX4_product := rfl
theorem rt_X4_product : tp_rtt kX4_product = (some (.object "ThroughPack$Sum")) := rfl
theorem N_X4_product : tp_Mk yX4_product cX4_product 3 (some (.object "ThroughPack$Sum")) 0 := ⟨q669, q131, by decide +kernel, tp_len (by decide +kernel), by decide, by decide +kernel⟩
theorem M_X4_product : tp_Mk (tp_nm kX4_product) (tp_by kX4_product) (tp_ml kX4_product) (tp_rtt kX4_product) 0 := by rw [nm_X4_product, by_X4_product, lX4_product, rt_X4_product]; exact N_X4_product
theorem nm_X4_one : tp_nm kX4_one = yX4_one := rfl
theorem by_X4_one : tp_by kX4_one = cX4_one := rfl
theorem rt_X4_one : tp_rtt kX4_one = (some (.object "ThroughPack$Sum")) := rfl
theorem N_X4_one : tp_Mk yX4_one cX4_one 2 (some (.object "ThroughPack$Sum")) 0 := ⟨q673, q131, by decide +kernel, tp_len (by decide +kernel), by decide, by decide +kernel⟩
theorem M_X4_one : tp_Mk (tp_nm kX4_one) (tp_by kX4_one) (tp_ml kX4_one) (tp_rtt kX4_one) 0 := by rw [nm_X4_one, by_X4_one, lX4_one, rt_X4_one]; exact N_X4_one
theorem nm_X4_number : tp_nm kX4_number = yX4_number := rfl
theorem by_X4_number : tp_by kX4_number = cX4_number := rfl
theorem rt_X4_number : tp_rtt kX4_number = (some .int) := rfl
theorem N_X4_number : tp_Mk yX4_number cX4_number 4 (some .int) 2 := ⟨q679, q131, by decide +kernel, tp_len (by decide +kernel), by decide, by decide +kernel⟩
theorem M_X4_number : tp_Mk (tp_nm kX4_number) (tp_by kX4_number) (tp_ml kX4_number) (tp_rtt kX4_number) 2 := by rw [nm_X4_number, by_X4_number, lX4_number, rt_X4_number]; exact N_X4_number
theorem nm_X4_want : tp_nm kX4_want = yX4_want := rfl
theorem by_X4_want : tp_by kX4_want = cX4_want := rfl
theorem rt_X4_want : tp_rtt kX4_want = none := rfl
theorem N_X4_want : tp_Mk yX4_want cX4_want 2 none 1 := ⟨q701, q131, by decide +kernel, tp_len (by decide +kernel), by decide, by decide +kernel⟩
theorem M_X4_want : tp_Mk (tp_nm kX4_want) (tp_by kX4_want) (tp_ml kX4_want) (tp_rtt kX4_want) 1 := by rw [nm_X4_want, by_X4_want, lX4_want, rt_X4_want]; exact N_X4_want
theorem nm_X5_init : tp_nm kX5_init = yX5_init := rfl
theorem by_X5_init : tp_by kX5_init = cX5_init := rfl
theorem rt_X5_init : tp_rtt kX5_init = none := rfl
theorem N_X5_init : tp_Mk yX5_init cX5_init 1 none 0 := ⟨q430, q132, by decide +kernel, tp_len (by decide +kernel), by decide, by decide +kernel⟩
theorem M_X5_init : tp_Mk (tp_nm kX5_init) (tp_by kX5_init) (tp_ml kX5_init) (tp_rtt kX5_init) 0 := by rw [nm_X5_init, by_X5_init, lX5_init, rt_X5_init]; exact N_X5_init
theorem nm_X5_some : tp_nm kX5_some = yX5_some := rfl
theorem by_X5_some : tp_by kX5_some = cX5_some := rfl
theorem rt_X5_some : tp_rtt kX5_some = (some .boolean) := rfl
theorem N_X5_some : tp_Mk yX5_some cX5_some 3 (some .boolean) 2 := ⟨q925, q132, by decide +kernel, tp_len (by decide +kernel), by decide, by decide +kernel⟩
theorem M_X5_some : tp_Mk (tp_nm kX5_some) (tp_by kX5_some) (tp_ml kX5_some) (tp_rtt kX5_some) 2 := by rw [nm_X5_some, by_X5_some, lX5_some, rt_X5_some]; exact N_X5_some
theorem nm_X6_init : tp_nm kX6_init = yX6_init := rfl
theorem by_X6_init : tp_by kX6_init = cX6_init := rfl
theorem rt_X6_init : tp_rtt kX6_init = none := rfl
theorem N_X6_init : tp_Mk yX6_init cX6_init 3 none 2 := ⟨q600, q142, by decide +kernel, tp_len (by decide +kernel), by decide, by decide +kernel⟩
theorem M_X6_init : tp_Mk (tp_nm kX6_init) (tp_by kX6_init) (tp_ml kX6_init) (tp_rtt kX6_init) 2 := by rw [nm_X6_init, by_X6_init, lX6_init, rt_X6_init]; exact N_X6_init
theorem nm_X7_init : tp_nm kX7_init = yX7_init := rfl
theorem by_X7_init : tp_by kX7_init = cX7_init := rfl
theorem rt_X7_init : tp_rtt kX7_init = none := rfl
theorem N_X7_init : tp_Mk yX7_init cX7_init 2 none 1 := ⟨q651, q144, by decide +kernel, tp_len (by decide +kernel), by decide, by decide +kernel⟩
theorem M_X7_init : tp_Mk (tp_nm kX7_init) (tp_by kX7_init) (tp_ml kX7_init) (tp_rtt kX7_init) 1 := by rw [nm_X7_init, by_X7_init, lX7_init, rt_X7_init]; exact N_X7_init
theorem nm_X7_is : tp_nm kX7_is = yX7_is := rfl
theorem by_X7_is : tp_by kX7_is = cX7_is := rfl
theorem rt_X7_is : tp_rtt kX7_is = (some .boolean) := rfl
theorem N_X7_is : tp_Mk yX7_is cX7_is 2 (some .boolean) 1 := ⟨q1003, q144, by decide +kernel, tp_len (by decide +kernel), by decide, by decide +kernel⟩
theorem M_X7_is : tp_Mk (tp_nm kX7_is) (tp_by kX7_is) (tp_ml kX7_is) (tp_rtt kX7_is) 1 := by rw [nm_X7_is, by_X7_is, lX7_is, rt_X7_is]; exact N_X7_is
theorem nm_X8_init : tp_nm kX8_init = yX8_init := rfl
theorem by_X8_init : tp_by kX8_init = cX8_init := rfl
theorem rt_X8_init : tp_rtt kX8_init = none := rfl
theorem N_X8_init : tp_Mk yX8_init cX8_init 2 none 1 := ⟨q714, q145, by decide +kernel, tp_len (by decide +kernel), by decide, by decide +kernel⟩
theorem M_X8_init : tp_Mk (tp_nm kX8_init) (tp_by kX8_init) (tp_ml kX8_init) (tp_rtt kX8_init) 1 := by rw [nm_X8_init, by_X8_init, lX8_init, rt_X8_init]; exact N_X8_init
theorem nm_X8_add : tp_nm kX8_add = yX8_add := rfl
theorem by_X8_add : tp_by kX8_add = cX8_add := rfl
theorem rt_X8_add : tp_rtt kX8_add = none := rfl
theorem N_X8_add : tp_Mk yX8_add cX8_add 3 none 2 := ⟨q731, q145, by decide +kernel, tp_len (by decide +kernel), by decide, by decide +kernel⟩
theorem M_X8_add : tp_Mk (tp_nm kX8_add) (tp_by kX8_add) (tp_ml kX8_add) (tp_rtt kX8_add) 2 := by rw [nm_X8_add, by_X8_add, lX8_add, rt_X8_add]; exact N_X8_add
theorem nm_X8_itself : tp_nm kX8_itself = yX8_itself := rfl
theorem by_X8_itself : tp_by kX8_itself = cX8_itself := rfl
theorem rt_X8_itself : tp_rtt kX8_itself = (some (.object "ThroughPack$Sum")) := rfl
theorem N_X8_itself : tp_Mk yX8_itself cX8_itself 1 (some (.object "ThroughPack$Sum")) 0 := ⟨q812, q145, by decide +kernel, tp_len (by decide +kernel), by decide, by decide +kernel⟩
theorem M_X8_itself : tp_Mk (tp_nm kX8_itself) (tp_by kX8_itself) (tp_ml kX8_itself) (tp_rtt kX8_itself) 0 := by rw [nm_X8_itself, by_X8_itself, lX8_itself, rt_X8_itself]; exact N_X8_itself
theorem nm_X8_of : tp_nm kX8_of = yX8_of := rfl
theorem by_X8_of : tp_by kX8_of = cX8_of := rfl
theorem rt_X8_of : tp_rtt kX8_of = (some .long) := rfl
theorem N_X8_of : tp_Mk yX8_of cX8_of 10 (some .long) 1 := ⟨q959, q145, by decide +kernel, tp_len (by decide +kernel), by decide, by decide +kernel⟩
theorem M_X8_of : tp_Mk (tp_nm kX8_of) (tp_by kX8_of) (tp_ml kX8_of) (tp_rtt kX8_of) 1 := by rw [nm_X8_of, by_X8_of, lX8_of, rt_X8_of]; exact N_X8_of
theorem nm_X9_init : tp_nm kX9_init = yX9_init := rfl
theorem by_X9_init : tp_by kX9_init = cX9_init := rfl
theorem rt_X9_init : tp_rtt kX9_init = none := rfl
theorem N_X9_init : tp_Mk yX9_init cX9_init 2 none 1 := ⟨q682, q146, by decide +kernel, tp_len (by decide +kernel), by decide, by decide +kernel⟩
theorem M_X9_init : tp_Mk (tp_nm kX9_init) (tp_by kX9_init) (tp_ml kX9_init) (tp_rtt kX9_init) 1 := by rw [nm_X9_init, by_X9_init, lX9_init, rt_X9_init]; exact N_X9_init
theorem nm_X9_of : tp_nm kX9_of = yX9_of := rfl
theorem by_X9_of : tp_by kX9_of = cX9_of := rfl
theorem rt_X9_of : tp_rtt kX9_of = (some .long) := rfl
theorem N_X9_of : tp_Mk yX9_of cX9_of 2 (some .long) 1 := ⟨q981, q146, by decide +kernel, tp_len (by decide +kernel), by decide, by decide +kernel⟩
theorem M_X9_of : tp_Mk (tp_nm kX9_of) (tp_by kX9_of) (tp_ml kX9_of) (tp_rtt kX9_of) 1 := by rw [nm_X9_of, by_X9_of, lX9_of, rt_X9_of]; exact N_X9_of
