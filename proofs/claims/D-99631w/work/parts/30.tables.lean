/-! TABLES of the program as data (printed by tools/print_tables.py) -/
set_option maxRecDepth 100000
def ai_cns : List String := ["BoardCrossing", "BoardCrossing$Rive\x72", "BoardCrossing$State", "BoardCrossing$Wrong", "BoardCrossing$Coolest", "BoardCrossing$Straightest", "BoardCrossing$Kept", "BoardCrossingModel", "BoardCrossing$Reade\x72", "BoardCrossing$Board", "BoardCrossing$Load", "BoardCrossing$Not", "BoardCrossing$Numeral", "BoardCrossing$Named", "BoardCrossing$Two", "BoardCrossing$Sight", "java/util/ArrayList", "java/util/ArrayList$It\x72", "java/lang/String", "BoardCrossing$Wish", "BoardCrossing$Called", "BoardCrossing$Part", "java/util/AbstractCollection", "java/util/AbstractList", "java/util/Objects", "jdk/internal/util/Preconditions", "java/lang/StringLatin1", "jdk/internal/util/ArraysSupport", "java/lang/Math", "java/util/Arrays", "java/lang/Intege\x72", "BoardCrossingLaw"]
def ai_cn (o : Nat) : String := ai_cns.getD o ""
def ai_TW : u_T := fun k => match k with
  | 0 => ("BoardCrossing$Wrong", "kind", "I", false)
  | _ => ("BoardCrossing$Wrong", "place", "I", false)
def ai_tW : Nat → FieldType := fun _ => .int
abbrev ai_cl : List vw_C := [(RX0, TX0, 29), (RX1, TX1, 17), (RX2, TX2, 7), (RX3, ai_TW, 2), (RX5, TX5, 4), (RX6, TX6, 5), (RX7, TX7, 1), (RX8, TX8, 82), (RX9, TX9, 11), (RX11, TX11, 4), (RX12, TX12, 2), (RX14, TX14, 1), (RX15, TX15, 1), (RX16, TX16, 1), (RX17, TX17, 3), (RX18, TX18, 6), (RJ2, TJ2, 3), (RJ10, TJ10, 4)]
def ai_ncl : Nat := 18
def ai_cKept : Nat := 6
def ai_cWrong : Nat := 3
def ai_cStr : Nat := 18
def ai_cRead : Nat := 8
def ai_kMirror : Nat := 40
def ai_ty (c : Nat) : Nat → FieldType := match c with
  | 0 => tyX0
  | 1 => tyX1
  | 2 => tyX2
  | 3 => ai_tW
  | 4 => tyX5
  | 5 => tyX6
  | 6 => tyX7
  | 7 => tyX8
  | 8 => tyX9
  | 9 => tyX11
  | 10 => tyX12
  | 11 => tyX14
  | 12 => tyX15
  | 13 => tyX16
  | 14 => tyX17
  | 15 => tyX18
  | 16 => tyJ2
  | 17 => tyJ10
  | _ => fun _ => .int
def ai_T (c : Nat) : u_T := match c with
  | 0 => TX0
  | 1 => TX1
  | 2 => TX2
  | 3 => ai_TW
  | 4 => TX5
  | 5 => TX6
  | 6 => TX7
  | 7 => TX8
  | 8 => TX9
  | 9 => TX11
  | 10 => TX12
  | 11 => TX14
  | 12 => TX15
  | 13 => TX16
  | 14 => TX17
  | 15 => TX18
  | 16 => TJ2
  | 17 => TJ10
  | _ => ai_TW
def ai_fin (c k : Nat) : Bool := (ai_T c k).2.2.2
def ai_nfs : List Nat := [29, 17, 7, 8, 4, 5, 1, 82, 11, 4, 2, 1, 1, 1, 3, 6, 3, 4]
def ai_nf (c : Nat) : Nat := ai_nfs.getD c 0
abbrev ai_M : Type := MethodName × ByteArray × Nat × Option FieldType × Nat × List (Nat × Nat × Nat × Nat)
def ai_mt0 : List ai_M := [
  (x, cL_law, 4, (some .boolean), 31, []),
  (yJ0_init, cJ0_init, 1, none, 22, []),
  (yJ1_init, cJ1_init, 1, none, 23, []),
  (yJ2_init, cJ2_init, 1, none, 16, []),
  (yX1_init, cX1_init, 1, none, 1, []),
  (yX2_init, cX2_init, 1, none, 2, []),
  (yX4_init, cX4_init, 2, none, 19, []),
  (yX5_init, cX5_init, 2, none, 4, []),
  (yX6_init, cX6_init, 2, none, 5, []),
  (yX7_init, cX7_init, 2, none, 6, []),
  (yJ2_size, cJ2_size, 1, (some .int), 16, []),
  (yJ6_checkIndex, cJ6_checkIndex, 3, (some .int), 25, []),
  (yJ5_checkIndex, cJ5_checkIndex, 2, (some .int), 24, []),
  (yJ2_elementData, cJ2_elementData, 2, (some (.object "java/lang/Object")), 16, []),
  (yJ2_get, cJ2_get, 2, (some (.object "java/lang/Object")), 16, []),
  (yX2_begin, cX2_begin, 3, none, 2, []),
  (yJ2_clear, cJ2_clear, 4, none, 16, []),
  (yX0_start, cX0_start, 2, none, 0, []),
  (yX0_init, cX0_init, 1, none, 0, []),
  (yX8_init, cX8_init, 1, none, 7, []),
  (yX0_bytes, cX0_bytes, 3, none, 0, []),
  (yX0_feed, cX0_feed, 6, (some .int), 0, []),
  (yX8_four, cX8_four, 3, none, 7, []),
  (yX8_feed, cX8_feed, 6, (some .int), 7, []),
  (yX0_end, cX0_end, 2, (some .int), 0, []),
  (yX8_end, cX8_end, 2, (some .int), 7, []),
  (yX9_init, cX9_init, 4, none, 8, []),
  (yX9_sign, cX9_sign, 2, (some .int), 8, []),
  (yX9_isLetter, cX9_isLetter, 1, (some .boolean), 8, []),
  (yX9_readWord, cX9_readWord, 1, none, 8, []),
  (yX9_isDigit, cX9_isDigit, 1, (some .boolean), 8, []),
  (yX9_readNumber, cX9_readNumber, 1, none, 8, []),
  (yX9_isSign, cX9_isSign, 1, (some .boolean), 8, []),
  (yX9_next, cX9_next, 2, none, 8, []),
  (yJ7_coder, cJ7_coder, 1, (some .byte), 18, []),
  (yJ7_length, cJ7_length, 1, (some .int), 18, []),
  (yJ7_isLatin1, cJ7_isLatin1, 1, (some .boolean), 18, []),
  (yJ7_checkIndex, cJ7_checkIndex, 2, none, 18, []),
  (yJ8_charAt, cJ8_charAt, 2, (some .char), 26, []),
  (yJ7_charAt, cJ7_charAt, 2, (some .char), 18, [])]
def ai_mt1 : List ai_M := [
  (yX9_isWord, cX9_isWord, 3, (some .boolean), 8, []),
  (yX9_canLine, cX9_canLine, 1, (some .boolean), 8, []),
  (yX3_by, cX3_by, 3, (some (.object "BoardCrossing$Wrong")), 3, []),
  (yX9_wrong, cX9_wrong, 1, (some (.object "BoardCrossing$Wrong")), 8, []),
  (yX9_comes, cX9_comes, 3, (some .boolean), 8, []),
  (yX9_number, cX9_number, 4, (some .int), 8, []),
  (yX9_must, cX9_must, 2, none, 8, []),
  (yX9_after, cX9_after, 4, (some .int), 8, []),
  (yX1_cell, cX1_cell, 3, (some .int), 1, []),
  (yX9_cell, cX9_cell, 7, (some .int), 8, []),
  (yX9_current, cX9_current, 2, none, 8, []),
  (yX9_iron, cX9_iron, 2, none, 8, []),
  (yX9_which, cX9_which, 3, (some .int), 8, []),
  (yJ10_init, cJ10_init, 2, none, 17, []),
  (yJ2_iterator, cJ2_iterator, 1, (some (.object "java/util/Iterato\x72")), 16, []),
  (yJ10_hasNext, cJ10_hasNext, 1, (some .boolean), 17, []),
  (yJ10_checkForComodification, cJ10_checkForComodification, 1, none, 17, []),
  (yJ10_next, cJ10_next, 3, (some (.object "java/lang/Object")), 17, []),
  (yX9_fresh, cX9_fresh, 4, (some .long), 8, []),
  (yX10_init, cX10_init, 3, none, 20, []),
  (yX11_init, cX11_init, 3, none, 9, []),
  (yJ11_hugeLength, cJ11_hugeLength, 3, (some .int), 27, []),
  (yJ11_newLength, cJ11_newLength, 4, (some .int), 27, []),
  (yJ13_copyOf_2, cJ13_copyOf_2, 4, (some (.array (.object "java/lang/Object"))), 29, []),
  (yJ13_copyOf, cJ13_copyOf, 2, (some (.array (.object "java/lang/Object"))), 29, []),
  (yJ2_grow_2, cJ2_grow_2, 4, (some (.array (.object "java/lang/Object"))), 16, []),
  (yJ2_grow, cJ2_grow, 1, (some (.array (.object "java/lang/Object"))), 16, []),
  (yJ2_add_2, cJ2_add_2, 4, none, 16, []),
  (yJ2_add, cJ2_add, 2, (some .boolean), 16, []),
  (yX9_board, cX9_board, 2, none, 8, []),
  (yX12_init, cX12_init, 3, none, 10, []),
  (yX9_load, cX9_load, 2, none, 8, []),
  (yX9_open, cX9_open, 1, none, 8, []),
  (yX13_init, cX13_init, 1, none, 21, []),
  (yX14_init, cX14_init, 2, none, 11, []),
  (yX9_isSignHere, cX9_isSignHere, 2, (some .boolean), 8, []),
  (yX15_init, cX15_init, 2, none, 12, []),
  (yX16_init, cX16_init, 2, none, 13, []),
  (yX9_unit, cX9_unit, 4, (some (.object "BoardCrossing$Part")), 8, []),
  (yX17_init, cX17_init, 4, none, 14, [])]
def ai_mt2 : List ai_M := [
  (yX9_term, cX9_term, 3, (some (.object "BoardCrossing$Part")), 8, []),
  (yX9_sum, cX9_sum, 3, (some (.object "BoardCrossing$Part")), 8, []),
  (yX9_one, cX9_one, 3, (some (.object "BoardCrossing$Part")), 8, []),
  (yX9_both, cX9_both, 2, (some (.object "BoardCrossing$Part")), 8, []),
  (yX9_either, cX9_either, 2, (some (.object "BoardCrossing$Part")), 8, []),
  (yX9_formula, cX9_formula, 1, (some (.object "BoardCrossing$Part")), 8, []),
  (yX9_line, cX9_line, 1, none, 8, []),
  (yX9_read, cX9_read, 1, (some (.object "BoardCrossing$Rive\x72")), 8, []),
  (yX0_boards, cX0_boards, 1, (some .int), 0, []),
  (yX0_river, cX0_river, 3, (some .int), 0, [(20, 43, 46, 39)]),
  (yX8_here, cX8_here, 2, (some .int), 7, []),
  (yX8_isLetter, cX8_isLetter, 1, (some .boolean), 7, []),
  (yX8_isDigit, cX8_isDigit, 1, (some .boolean), 7, []),
  (yX8_isSign, cX8_isSign, 1, (some .boolean), 7, []),
  (yX8_token, cX8_token, 3, none, 7, []),
  (yX8_isWord, cX8_isWord, 3, (some .boolean), 7, []),
  (yX8_wrong, cX8_wrong, 2, none, 7, []),
  (yX8_toldNumber, cX8_toldNumber, 4, (some .int), 7, []),
  (yX8_want, cX8_want, 3, none, 7, []),
  (yX8_told, cX8_told, 5, (some .int), 7, []),
  (yX8_readWater, cX8_readWater, 1, none, 7, []),
  (yX8_readCell, cX8_readCell, 5, (some .int), 7, []),
  (yX8_readCurrent, cX8_readCurrent, 3, none, 7, []),
  (yX8_readIron, cX8_readIron, 2, none, 7, []),
  (yX8_isOwn, cX8_isOwn, 1, (some .boolean), 7, []),
  (yX8_isName, cX8_isName, 1, (some .boolean), 7, []),
  (yX8_newName, cX8_newName, 4, none, 7, []),
  (yX8_readBoard, cX8_readBoard, 2, none, 7, []),
  (yX8_readLoad, cX8_readLoad, 1, none, 7, []),
  (yX8_tight, cX8_tight, 1, (some .int), 7, []),
  (yX8_mayNot, cX8_mayNot, 1, (some .boolean), 7, []),
  (yX8_openUp, cX8_openUp, 2, none, 7, []),
  (yX8_isFull, cX8_isFull, 1, (some .boolean), 7, []),
  (yX8_countUnit, cX8_countUnit, 1, none, 7, []),
  (yX8_asked, cX8_asked, 1, (some .int), 7, []),
  (yX8_add, cX8_add, 3, none, 7, []),
  (yX8_unit, cX8_unit, 3, none, 7, []),
  (yX8_sign, cX8_sign, 1, (some .int), 7, []),
  (yX8_hasBracket, cX8_hasBracket, 3, (some .boolean), 7, []),
  (yX8_close, cX8_close, 2, none, 7, [])]
def ai_mt3 : List ai_M := [
  (yX8_hasRelation, cX8_hasRelation, 2, (some .boolean), 7, []),
  (yX8_formula, cX8_formula, 3, none, 7, []),
  (yX8_readLine, cX8_readLine, 1, none, 7, []),
  (yX8_readAll, cX8_readAll, 2, none, 7, []),
  (yX8_river, cX8_river, 2, (some .int), 7, []),
  (yX0_fault, cX0_fault, 2, (some .int), 0, []),
  (yX8_fault, cX8_fault, 2, (some .int), 7, []),
  (yX0_isIn, cX0_isIn, 3, (some .boolean), 0, []),
  (yX0_isBoard, cX0_isBoard, 2, (some .boolean), 0, []),
  (yX2_loadsAt, cX2_loadsAt, 5, (some .int), 2, []),
  (yX1_has, cX1_has, 2, (some .boolean), 1, []),
  (yX1_widthOf, cX1_widthOf, 4, (some .int), 1, []),
  (yX2_burden, cX2_burden, 3, (some .int), 2, []),
  (yX0_board, cX0_board, 4, (some .int), 0, []),
  (yX8_isIn, cX8_isIn, 3, (some .boolean), 7, []),
  (yX8_isBoard, cX8_isBoard, 2, (some .boolean), 7, []),
  (yX8_fill, cX8_fill, 2, none, 7, []),
  (yX8_burdenOf, cX8_burdenOf, 4, (some .int), 7, []),
  (yX8_truth, cX8_truth, 1, (some .int), 7, []),
  (yX8_loadsAt, cX8_loadsAt, 4, (some .int), 7, []),
  (yX8_board, cX8_board, 3, (some .int), 7, []),
  (yX0_loads, cX0_loads, 1, (some .int), 0, []),
  (yX0_isLoad, cX0_isLoad, 2, (some .boolean), 0, []),
  (yX0_load, cX0_load, 3, (some .int), 0, []),
  (yX8_isLoad, cX8_isLoad, 2, (some .boolean), 7, []),
  (yX8_load, cX8_load, 3, (some .int), 7, []),
  (yX0_spot, cX0_spot, 4, (some .int), 0, []),
  (yX8_currentAt, cX8_currentAt, 3, (some .int), 7, []),
  (yX8_isIron, cX8_isIron, 3, (some .boolean), 7, []),
  (yX8_spot, cX8_spot, 4, (some .int), 7, []),
  (yX15_of, cX15_of, 2, (some .int), 12, []),
  (yX16_of, cX16_of, 2, (some .int), 13, []),
  (yX17_is, cX17_is, 1, (some .int), 14, []),
  (yX17_of, cX17_of, 4, (some .int), 14, []),
  (yX14_of, cX14_of, 2, (some .int), 11, []),
  (yX0_within, cX0_within, 2, (some .int), 0, []),
  (yX1_hotter, cX1_hotter, 3, (some .int), 1, []),
  (yX0_hotter, cX0_hotter, 2, (some .int), 0, []),
  (yX8_done, cX8_done, 3, (some .int), 7, []),
  (yX8_within, cX8_within, 2, (some .int), 7, [])]
def ai_mt4 : List ai_M := [
  (yX8_hotterOf, cX8_hotterOf, 4, (some .int), 7, []),
  (yX8_hotter, cX8_hotter, 2, (some .int), 7, []),
  (yJ2_fastRemove, cJ2_fastRemove, 4, none, 16, []),
  (yJ2_remove, cJ2_remove, 4, (some (.object "java/lang/Object")), 16, []),
  (yX2_of, cX2_of, 2, none, 2, []),
  (yX0_copy, cX0_copy, 2, (some (.object "BoardCrossing$State")), 0, []),
  (yX0_keepAct, cX0_keepAct, 1, none, 0, []),
  (yX2_stroke, cX2_stroke, 11, (some .int), 2, []),
  (yX0_stroke, cX0_stroke, 4, (some .int), 0, []),
  (yX8_act, cX8_act, 2, none, 7, []),
  (yX8_columnBy, cX8_columnBy, 5, (some .int), 7, []),
  (yX8_goStroke, cX8_goStroke, 10, (some .int), 7, []),
  (yX8_keepAir, cX8_keepAir, 2, none, 7, []),
  (yX8_stroke, cX8_stroke, 5, (some .int), 7, []),
  (yX2_bankOf, cX2_bankOf, 3, (some .int), 2, []),
  (yX0_liesFlat, cX0_liesFlat, 3, (some .boolean), 0, []),
  (yX0_stow, cX0_stow, 3, (some .int), 0, []),
  (yX8_isAtBank, cX8_isAtBank, 2, (some .boolean), 7, []),
  (yX8_bankOf, cX8_bankOf, 2, (some .int), 7, []),
  (yX8_stow, cX8_stow, 3, (some .int), 7, []),
  (yX0_take, cX0_take, 3, (some .int), 0, []),
  (yX8_take, cX8_take, 3, (some .int), 7, []),
  (yX0_cool, cX0_cool, 3, (some .int), 0, []),
  (yX8_cool, cX8_cool, 3, (some .int), 7, []),
  (yJ2_isEmpty, cJ2_isEmpty, 1, (some .boolean), 16, []),
  (yX0_turned, cX0_turned, 3, (some (.object "BoardCrossing$Kept")), 0, []),
  (yX0_undo, cX0_undo, 1, (some .boolean), 0, []),
  (yX8_exchange, cX8_exchange, 4, none, 7, []),
  (yX8_undo, cX8_undo, 1, (some .boolean), 7, []),
  (yX0_redo, cX0_redo, 1, (some .boolean), 0, []),
  (yX8_redo, cX8_redo, 1, (some .boolean), 7, []),
  (yX0_strokesLeft, cX0_strokesLeft, 2, (some .int), 0, []),
  (yX0_power, cX0_power, 4, (some .int), 0, []),
  (yX0_steerOf, cX0_steerOf, 3, (some .int), 0, []),
  (yX0_goRow, cX0_goRow, 7, (some .int), 0, []),
  (yX0_landingsOf, cX0_landingsOf, 5, (some .int), 0, []),
  (yX0_landings, cX0_landings, 2, (some .int), 0, []),
  (yX8_leftOf, cX8_leftOf, 2, (some .int), 7, []),
  (yX8_power, cX8_power, 4, (some .int), 7, []),
  (yX8_goRow, cX8_goRow, 7, (some .boolean), 7, [])]
def ai_mt5 : List ai_M := [
  (yX8_landingsOf, cX8_landingsOf, 4, (some .int), 7, []),
  (yX8_landings, cX8_landings, 2, (some .int), 7, []),
  (yX0_straightOn, cX0_straightOn, 1, (some .int), 0, []),
  (yX0_drift, cX0_drift, 3, (some .int), 0, []),
  (yX8_unsteered, cX8_unsteered, 2, (some .int), 7, []),
  (yX8_drift, cX8_drift, 2, (some .int), 7, []),
  (yX0_rows, cX0_rows, 5, (some .int), 0, []),
  (yX8_rows, cX8_rows, 4, (some .int), 7, []),
  (yX5_costOf, cX5_costOf, 4, (some .int), 4, []),
  (yX6_costOf, cX6_costOf, 4, (some .int), 5, []),
  (yX4_seek, cX4_seek, 6, (some .boolean), 19, []),
  (yX0_coolest, cX0_coolest, 4, (some .int), 0, []),
  (yX8_putSteers, cX8_putSteers, 3, none, 7, []),
  (yX8_coolest, cX8_coolest, 7, (some .int), 7, []),
  (yX0_straight, cX0_straight, 3, (some .int), 0, []),
  (yX8_turned, cX8_turned, 4, (some .int), 7, []),
  (yX8_straight, cX8_straight, 5, (some .int), 7, []),
  (yX0_widest, cX0_widest, 6, (some .int), 0, []),
  (yX8_wideOf, cX8_wideOf, 4, (some .int), 7, []),
  (yX8_widest, cX8_widest, 6, (some .int), 7, []),
  (yX0_goTrips, cX0_goTrips, 7, none, 0, []),
  (yX0_trips, cX0_trips, 2, (some .int), 0, []),
  (yX8_nearLoads, cX8_nearLoads, 1, (some .int), 7, []),
  (yX8_layBefore, cX8_layBefore, 4, (some .int), 7, []),
  (yX8_isFlat, cX8_isFlat, 5, (some .boolean), 7, []),
  (yX8_nextTrips, cX8_nextTrips, 4, (some .boolean), 7, []),
  (yX8_trips, cX8_trips, 7, (some .int), 7, []),
  (yJ14_bitCount, cJ14_bitCount, 1, (some .int), 30, []),
  (yX0_goStow, cX0_goStow, 6, none, 0, []),
  (yX0_stowing, cX0_stowing, 1, (some .int), 0, []),
  (yX8_stowBy, cX8_stowBy, 7, (some .int), 7, []),
  (yX8_members, cX8_members, 3, (some .int), 7, []),
  (yX8_stowing, cX8_stowing, 6, (some .int), 7, []),
  (yX0_areSideBySide, cX0_areSideBySide, 2, (some .boolean), 0, []),
  (yX0_columnBy, cX0_columnBy, 5, (some .int), 0, []),
  (yX0_goMeet, cX0_goMeet, 6, none, 0, []),
  (yX0_meet, cX0_meet, 4, (some .int), 0, []),
  (yX8_plain, cX8_plain, 1, (some .int), 7, []),
  (yX8_areBeside, cX8_areBeside, 3, (some .boolean), 7, []),
  (yX8_goBoth, cX8_goBoth, 6, none, 7, [])]
def ai_mt6 : List ai_M := [
  (yX8_meet, cX8_meet, 4, (some .int), 7, []),
  (yX0_has, cX0_has, 2, (some .boolean), 0, []),
  (yX0_goMoor, cX0_goMoor, 6, none, 0, []),
  (yX0_mooring, cX0_mooring, 3, (some .int), 0, []),
  (yX8_layMooring, cX8_layMooring, 6, (some .int), 7, []),
  (yX8_betweenAll, cX8_betweenAll, 3, (some .int), 7, []),
  (yX8_mooring, cX8_mooring, 7, (some .int), 7, []),
  (yX0_good, cX0_good, 4, (some .int), 0, []),
  (yX0_rests, cX0_rests, 8, (some .boolean), 0, []),
  (yX0_guests, cX0_guests, 8, (some .int), 0, []),
  (yX8_guestWorth, cX8_guestWorth, 4, (some .int), 7, []),
  (yX8_isRest, cX8_isRest, 9, (some .boolean), 7, []),
  (yX8_guests, cX8_guests, 8, (some .int), 7, []),
  (yX0_singe, cX0_singe, 4, (some .int), 0, []),
  (yX8_singe, cX8_singe, 4, (some .int), 7, []),
  (yX0_landsBy, cX0_landsBy, 8, (some .int), 0, []),
  (yX0_common, cX0_common, 2, (some .int), 0, []),
  (yX0_odds, cX0_odds, 7, (some .int), 0, []),
  (yX8_landsBy, cX8_landsBy, 6, (some .boolean), 7, []),
  (yX8_divisor, cX8_divisor, 5, (some .int), 7, []),
  (yX8_odds, cX8_odds, 8, (some .int), 7, []),
  (yX0_over, cX0_over, 1, (some .int), 0, []),
  (yX8_over, cX8_over, 1, (some .int), 7, []),
  (yX0_left, cX0_left, 1, (some .int), 0, []),
  (yX8_left, cX8_left, 1, (some .int), 7, []),
  (yX0_pulled, cX0_pulled, 3, (some .int), 0, []),
  (yX8_pulled, cX8_pulled, 3, (some .int), 7, []),
  (yX0_bearsYet, cX0_bearsYet, 2, (some .int), 0, []),
  (yX0_hottest, cX0_hottest, 3, (some .int), 0, []),
  (yX8_hottest, cX8_hottest, 3, (some .int), 7, []),
  (yX0_law, cX0_law, 4, (some .int), 0, []),
  (yX8_law, cX8_law, 5, (some .int), 7, []),
  (yX0_lies, cX0_lies, 2, (some .int), 0, []),
  (yX8_lies, cX8_lies, 2, (some .int), 7, []),
  (yX18_init, cX18_init, 6, none, 15, []),
  (yX0_see, cX0_see, 5, (some .int), 0, []),
  (yX0_passed, cX0_passed, 4, (some .int), 0, []),
  (yX8_see, cX8_see, 5, (some .int), 7, []),
  (yX8_passed, cX8_passed, 4, (some .int), 7, []),
  (yX0_felt, cX0_felt, 4, (some .int), 0, [])]
def ai_mt7 : List ai_M := [
  (yX8_felt, cX8_felt, 4, (some .int), 7, []),
  (yX0_untell, cX0_untell, 2, (some .boolean), 0, []),
  (yX8_untell, cX8_untell, 2, (some .boolean), 7, []),
  (yX0_later, cX0_later, 2, (some .int), 0, []),
  (yX8_later, cX8_later, 2, (some .int), 7, []),
  (yX18_counts, cX18_counts, 2, (some .boolean), 15, []),
  (yX0_doesFit, cX0_doesFit, 6, (some .boolean), 0, []),
  (yX0_layFits, cX0_layFits, 6, none, 0, []),
  (yX0_fits, cX0_fits, 2, (some .int), 0, []),
  (yX8_isSo, cX8_isSo, 3, (some .boolean), 7, []),
  (yX8_layFits, cX8_layFits, 7, (some .int), 7, []),
  (yX8_fits, cX8_fits, 2, (some .int), 7, []),
  (yX0_sure, cX0_sure, 4, (some .int), 0, []),
  (yX8_sure, cX8_sure, 6, (some .int), 7, []),
  (yX0_mostOf, cX0_mostOf, 2, (some .int), 0, []),
  (yX0_ask, cX0_ask, 5, (some .int), 0, []),
  (yX8_leftBy, cX8_leftBy, 4, (some .int), 7, []),
  (yX8_ask, cX8_ask, 5, (some .int), 7, []),
  (yX0_image, cX0_image, 2, (some .int), 0, []),
  (yX8_isBox, cX8_isBox, 1, (some .boolean), 7, []),
  (yX8_image, cX8_image, 3, (some .int), 7, []),
  (yX0_back, cX0_back, 2, (some .int), 0, []),
  (yX8_back, cX8_back, 3, (some .int), 7, []),
  (yX0_about, cX0_about, 2, (some .int), 0, []),
  (yX8_about, cX8_about, 2, (some .int), 7, [])]
def ai_mt : List ai_M := ai_mt0 ++ ai_mt1 ++ ai_mt2 ++ ai_mt3 ++ ai_mt4 ++ ai_mt5 ++ ai_mt6 ++ ai_mt7
def ai_m (k : Nat) : ai_M := (match k / 40 with
  | 0 => ai_mt0
  | 1 => ai_mt1
  | 2 => ai_mt2
  | 3 => ai_mt3
  | 4 => ai_mt4
  | 5 => ai_mt5
  | 6 => ai_mt6
  | 7 => ai_mt7
  | _ => []).getD (k % 40) (x, code, 4, some .boolean, 0, [])
def ai_mY (k : Nat) : MethodName := (ai_m k).1
def ai_mC (k : Nat) : ByteArray := (ai_m k).2.1
def ai_mL (k : Nat) : Nat := (ai_m k).2.2.1
def ai_mR (k : Nat) : Option FieldType := (ai_m k).2.2.2.1
def ai_mO (k : Nat) : Nat := (ai_m k).2.2.2.2.1
def ai_mH (k : Nat) : List (Nat × Nat × Nat × Nat) := (ai_m k).2.2.2.2.2
def ai_mI (k : Nat) : Bool := decide ((ai_mY k).name = "<init>")
def ai_ftl (o : Nat) : List (Nat × Nat × Nat) := match o with
  | 0 => [(19, 0, 0), (28, 0, 1), (32, 0, 2), (35, 0, 3), (42, 0, 4), (46, 0, 8), (53, 0, 9), (57, 0, 10), (60, 0, 11), (64, 0, 12), (72, 0, 14), (79, 0, 15), (83, 0, 17), (86, 0, 18), (90, 0, 19), (93, 0, 22), (96, 0, 23), (99, 0, 24), (102, 0, 25), (105, 0, 26), (113, 0, 28), (127, 0, 13), (130, 6, 0), (152, 1, 0), (155, 1, 1), (166, 0, 5), (173, 0, 7), (185, 3, 0), (188, 3, 1), (200, 2, 0), (203, 2, 1), (206, 2, 2), (209, 2, 3), (212, 2, 4), (215, 9, 1), (218, 9, 3), (233, 10, 1), (234, 2, 5), (237, 1, 8), (240, 1, 9), (242, 1, 2), (248, 1, 4), (258, 2, 6), (261, 1, 14), (314, 4, 0), (314, 5, 0), (317, 5, 3), (321, 4, 1), (321, 5, 1), (327, 0, 16), (358, 0, 20), (361, 0, 21), (393, 0, 6), (403, 15, 5), (423, 15, 3), (427, 15, 0), (429, 15, 1), (432, 15, 4), (435, 0, 27), (447, 1, 13)]
  | 1 => [(12, 1, 0), (18, 1, 1), (21, 1, 2), (25, 1, 3), (29, 1, 4), (32, 1, 8), (36, 1, 9), (39, 1, 16), (42, 1, 5), (46, 2, 1), (51, 2, 0), (64, 9, 1), (67, 2, 4), (69, 2, 2), (91, 10, 1)]
  | 2 => [(9, 2, 0), (15, 2, 1), (18, 2, 2), (21, 2, 3), (24, 2, 4), (27, 2, 5), (36, 2, 6), (40, 1, 0), (58, 9, 2), (61, 1, 15), (64, 1, 1), (75, 1, 9), (81, 1, 2), (88, 1, 8), (94, 1, 4), (103, 9, 3)]
  | 3 => [(7, 3, 0), (13, 3, 1)]
  | 4 => [(3, 4, 3), (15, 2, 3), (21, 0, 1), (25, 2, 2)]
  | 5 => [(3, 5, 4), (15, 2, 0), (21, 5, 3)]
  | 6 => [(7, 6, 0)]
  | 7 => [(7, 7, 0), (13, 7, 3), (17, 7, 10), (21, 7, 11), (24, 7, 12), (27, 7, 13), (30, 7, 14), (33, 7, 15), (36, 7, 16), (39, 7, 25), (42, 7, 26), (45, 7, 27), (48, 7, 28), (51, 7, 29), (54, 7, 30), (57, 7, 31), (60, 7, 32), (63, 7, 33), (66, 7, 34), (69, 7, 35), (72, 7, 36), (75, 7, 37), (78, 7, 46), (81, 7, 47), (84, 7, 54), (87, 7, 55), (90, 7, 56), (93, 7, 59), (96, 7, 60), (99, 7, 62), (102, 7, 63), (105, 7, 64), (108, 7, 65), (112, 7, 66), (115, 7, 67), (118, 7, 68), (121, 7, 69), (124, 7, 70), (127, 7, 71), (130, 7, 72), (133, 7, 73), (136, 7, 74), (139, 7, 77), (142, 7, 78), (145, 7, 79), (148, 7, 80), (151, 7, 81), (154, 7, 1), (161, 7, 4), (164, 7, 5), (171, 7, 7), (174, 7, 9), (178, 7, 8), (181, 7, 6), (194, 7, 2), (260, 7, 17), (263, 7, 19), (273, 7, 23), (276, 7, 20), (279, 7, 22), (298, 7, 24), (321, 7, 49), (327, 7, 18), (337, 7, 38), (344, 7, 39), (351, 7, 40), (354, 7, 41), (357, 7, 42), (363, 7, 43), (366, 7, 51), (387, 7, 52), (390, 7, 44), (393, 7, 53), (396, 7, 45), (405, 7, 48), (408, 7, 50), (411, 7, 21), (414, 7, 57), (417, 7, 58), (420, 7, 75), (423, 7, 61), (545, 7, 76)]
  | 8 => [(12, 8, 3), (18, 8, 0), (22, 8, 1), (26, 8, 2), (30, 8, 5), (33, 8, 4), (40, 8, 6), (59, 8, 8), (63, 8, 7), (125, 9, 0), (125, 10, 0), (126, 1, 8), (133, 1, 2), (137, 1, 9), (140, 1, 3), (147, 1, 11), (150, 1, 4), (153, 1, 12), (158, 1, 0), (175, 9, 1), (177, 9, 2), (183, 9, 3), (191, 1, 1), (195, 10, 1), (196, 8, 10), (199, 8, 9), (246, 1, 13), (259, 1, 10), (273, 1, 5), (278, 1, 6), (284, 1, 7), (302, 1, 14), (304, 1, 15)]
  | 9 => [(9, 9, 3)]
  | 11 => [(7, 11, 0)]
  | 12 => [(7, 12, 0)]
  | 13 => [(7, 13, 0)]
  | 14 => [(7, 14, 0), (13, 14, 1), (17, 14, 2)]
  | 15 => [(9, 15, 5), (15, 15, 0), (18, 15, 1), (21, 15, 3), (25, 15, 4), (28, 15, 2)]
  | 16 => [(9, 16, 1), (48, 16, 2), (63, 16, 0)]
  | 17 => [(1, 17, 3), (13, 17, 1), (17, 16, 0), (22, 17, 2), (25, 17, 0), (28, 16, 2), (37, 16, 1)]
  | 18 => [(9, 18, 0), (15, 18, 1)]
  | 19 => [(3, 4, 2), (3, 5, 2), (15, 4, 0), (15, 5, 0), (19, 0, 0), (23, 1, 9), (28, 0, 1), (32, 2, 1), (46, 0, 2), (53, 4, 1), (53, 5, 1), (56, 0, 13), (59, 0, 11)]
  | 20 => [(7, 9, 0), (7, 10, 0)]
  | 23 => [(7, 16, 0)]
  | _ => []
def ai_fT (o i c : Nat) : Option Nat := ((ai_ftl o).find? fun e => e.1 == i && e.2.1 == c).map fun e => e.2.2
def ai_ntl (o : Nat) : List (Nat × Nat) := match o with
  | 0 => [(16, 1), (25, 2), (39, 3), (50, 16), (67, 4), (76, 5), (108, 6), (176, 8), (391, 15)]
  | 1 => [(9, 16)]
  | 8 => [(9, 1), (156, 9), (189, 10), (211, 14), (226, 11), (249, 12), (254, 13)]
  | 16 => [(267, 17)]
  | 31 => [(7, 0), (10, 7)]
  | _ => []
def ai_nT (o i : Nat) : Option Nat := ((ai_ntl o).find? fun e => e.1 == i).map fun e => e.2
def ai_atl (o : Nat) : List (Nat × Nat) := match o with
  | 0 => [(108, 5)]
  | 16 => [(7, 4)]
  | 29 => [(2, 4)]
  | _ => []
def ai_aT (o i : Nat) : Option Nat := ((ai_atl o).find? fun e => e.1 == i).map fun e => e.2
def ai_ktl (o : Nat) : List (Nat × Nat) := match o with
  | 0 => [(108, 6), (198, 9), (231, 10), (391, 15)]
  | 1 => [(62, 9), (89, 10)]
  | 2 => [(56, 9)]
  | 8 => [(123, 9), (123, 10)]
  | _ => []
def ai_kT (o i c : Nat) : Bool := (ai_ktl o).any fun e => e.1 == i && e.2 == c
def ai_ntc (o : Nat) : List (Nat × Nat) := match o with
  | 0 => [(18, 1), (27, 1), (52, 1), (69, 2), (78, 2), (110, 2), (117, 1), (120, 2), (124, 1), (133, 2), (136, 1), (140, 2), (144, 1), (148, 2), (158, 1), (160, 3), (164, 1), (169, 2), (178, 4), (181, 1), (191, 2), (195, 2), (221, 3), (225, 3), (228, 2), (245, 3), (251, 3), (255, 1), (264, 6), (268, 3), (271, 3), (275, 2), (278, 1), (282, 2), (286, 2), (289, 3), (297, 2), (300, 4), (303, 2), (306, 1), (309, 2), (320, 2), (324, 2), (336, 5), (340, 1), (345, 4), (349, 4), (352, 1), (355, 2), (364, 2), (367, 5), (371, 4), (374, 7), (378, 2), (381, 5), (385, 1), (388, 2), (396, 6), (399, 5), (407, 1), (411, 1), (416, 1), (420, 2), (438, 3), (441, 2), (444, 2)]
  | 1 => [(11, 1), (54, 3), (58, 2), (71, 2), (77, 2), (81, 1), (85, 2)]
  | 2 => [(46, 1), (52, 2), (67, 3), (71, 2), (77, 3), (84, 3), (91, 2)]
  | 4 => [(9, 2)]
  | 5 => [(9, 2)]
  | 7 => [(157, 2), (167, 2), (184, 1), (188, 1), (191, 1), (235, 1), (239, 2), (243, 2), (246, 1), (249, 2), (253, 3), (257, 1), (266, 1), (269, 3), (282, 1), (285, 2), (288, 1), (291, 1), (294, 1), (302, 1), (305, 1), (308, 1), (311, 2), (314, 1), (317, 1), (324, 2), (330, 3), (334, 2), (340, 4), (347, 4), (360, 3), (369, 1), (372, 1), (375, 1), (378, 1), (381, 1), (384, 1), (399, 1), (402, 1), (426, 3), (430, 3), (433, 5), (437, 2), (440, 3), (444, 2), (447, 1), (450, 2), (453, 2), (456, 1), (459, 5), (462, 1), (465, 2), (468, 2), (471, 2), (474, 2), (477, 2), (480, 3), (483, 2), (486, 2), (490, 2), (493, 2), (496, 2), (499, 2), (502, 1), (505, 3), (508, 2), (511, 3), (514, 1), (517, 1), (520, 1), (523, 2), (526, 2), (529, 1), (532, 4), (535, 7), (539, 4), (542, 2), (548, 5), (553, 2), (556, 2), (559, 2), (562, 1), (565, 1)]
  | 8 => [(11, 1), (36, 2), (43, 1), (47, 1), (50, 1), (53, 1), (56, 1), (66, 1), (72, 2), (76, 2), (80, 3), (86, 1), (90, 1), (93, 2), (97, 3), (104, 2), (108, 1), (114, 1), (120, 1), (129, 3), (144, 4), (162, 2), (166, 2), (171, 4), (180, 2), (185, 2), (194, 2), (202, 1), (206, 1), (213, 4), (216, 1), (223, 1), (228, 2), (231, 1), (234, 2), (237, 1), (240, 1), (251, 2), (256, 2), (267, 1), (287, 1), (291, 1), (293, 1), (295, 1), (297, 1), (299, 1), (306, 1)]
  | 9 => [(3, 2)]
  | 10 => [(1, 2)]
  | 11 => [(1, 1), (13, 2)]
  | 12 => [(1, 1)]
  | 13 => [(1, 1)]
  | 14 => [(1, 1), (20, 2), (24, 1)]
  | 16 => [(1, 1), (66, 2), (69, 2), (73, 3), (118, 2), (123, 2), (129, 1), (131, 4), (144, 3), (269, 2)]
  | 17 => [(31, 1)]
  | 18 => [(335, 1), (492, 1), (495, 2), (498, 2), (1059, 3)]
  | 19 => [(38, 2), (42, 4), (49, 4), (62, 3)]
  | 23 => [(1, 1)]
  | 24 => [(105, 3)]
  | 26 => [(9, 2)]
  | 27 => [(201, 2)]
  | 29 => [(300, 3)]
  | 31 => [(9, 1), (12, 1), (13, 6), (17, 6), (18, 2), (22, 2), (23, 1), (27, 1), (28, 2), (31, 2), (32, 3), (36, 3), (37, 3), (40, 3), (41, 4), (45, 4), (46, 2), (49, 2), (50, 4), (54, 4), (55, 3), (58, 3), (59, 2), (62, 2), (63, 3), (66, 3), (67, 1), (71, 1), (72, 1), (75, 1), (76, 2), (79, 2), (80, 2), (83, 2), (84, 2), (87, 2), (88, 3), (91, 3), (92, 3), (95, 3), (96, 3), (99, 3), (100, 2), (103, 2), (104, 1), (107, 1), (108, 3), (111, 3), (112, 2), (115, 2), (116, 3), (119, 3), (120, 2), (123, 2), (124, 4), (127, 4), (128, 1), (131, 1), (132, 1), (135, 1), (136, 1), (139, 1), (140, 1), (143, 1), (144, 2), (147, 2), (148, 2), (151, 2), (152, 4), (155, 4), (156, 4), (159, 4), (160, 2), (164, 2), (165, 2), (168, 2), (169, 2), (172, 2), (173, 3), (176, 3), (177, 3), (180, 3), (181, 2), (184, 2), (185, 2), (188, 2), (189, 2), (192, 2)]
  | _ => []
def ai_aN (o i : Nat) : Option Nat := ((ai_ntc o).find? fun e => e.1 == i).map fun e => e.2
def ai_ctl (o : Nat) : List (Nat × Nat × Nat × Nat) := match o with
  | 0 => [(18, 0, 4, 1), (27, 0, 5, 1), (52, 0, 3, 1), (69, 0, 7, 1), (78, 0, 8, 1), (110, 0, 9, 1), (117, 0, 17, 2), (120, 2, 15, 2), (124, 16, 16, 2), (133, 2, 164, 2), (136, 16, 10, 2), (140, 16, 163, 2), (144, 0, 165, 0), (148, 16, 68, 2), (158, 0, 88, 2), (160, 0, 127, 0), (164, 0, 141, 2), (169, 0, 20, 2), (178, 0, 26, 1), (181, 8, 87, 2), (191, 0, 128, 2), (195, 16, 14, 2), (221, 2, 132, 2), (225, 2, 129, 2), (228, 0, 142, 2), (245, 1, 48, 2), (251, 1, 156, 2), (255, 0, 166, 2), (264, 2, 167, 2), (268, 2, 174, 2), (271, 0, 175, 2), (275, 0, 155, 0), (278, 16, 184, 2), (282, 0, 185, 2), (286, 0, 192, 0), (289, 0, 193, 0), (297, 0, 191, 2), (300, 0, 194, 2), (303, 0, 195, 2), (306, 0, 202, 0), (309, 4, 210, 2), (309, 5, 210, 2), (320, 5, 210, 2), (324, 1, 131, 2), (336, 0, 220, 2), (340, 0, 227, 0), (345, 0, 228, 2), (349, 0, 234, 2), (352, 0, 233, 2), (355, 0, 235, 2), (364, 0, 241, 0), (367, 0, 242, 2), (371, 0, 247, 2), (374, 0, 248, 2), (378, 0, 256, 0), (381, 0, 255, 2), (385, 0, 261, 2), (388, 0, 267, 2), (396, 0, 274, 1), (399, 0, 275, 2), (407, 16, 54, 2), (411, 17, 55, 3), (416, 17, 57, 3), (420, 15, 285, 2), (438, 0, 286, 2), (441, 0, 287, 2), (444, 0, 294, 2)]
  | 1 => [(11, 0, 3, 1), (54, 2, 132, 2), (58, 16, 14, 2), (71, 11, 154, 2), (71, 12, 150, 2), (71, 13, 151, 2), (71, 14, 153, 2), (77, 0, 155, 0), (81, 16, 10, 2), (85, 0, 130, 0)]
  | 2 => [(46, 16, 10, 2), (52, 16, 14, 2), (67, 2, 129, 2), (71, 1, 131, 2), (77, 1, 156, 2), (84, 1, 48, 2), (91, 0, 155, 0)]
  | 4 => [(9, 0, 6, 1)]
  | 5 => [(9, 0, 6, 1)]
  | 7 => [(157, 7, 22, 2), (167, 7, 90, 2), (184, 0, 91, 0), (188, 0, 92, 0), (191, 0, 93, 0), (235, 7, 104, 2), (239, 7, 95, 2), (243, 7, 96, 2), (246, 7, 94, 2), (249, 7, 98, 2), (253, 7, 97, 2), (257, 7, 105, 2), (266, 0, 109, 0), (269, 7, 115, 2), (282, 7, 110, 2), (285, 7, 111, 2), (288, 7, 112, 2), (291, 7, 113, 2), (294, 7, 114, 2), (302, 7, 116, 2), (305, 7, 117, 2), (308, 7, 118, 2), (311, 7, 119, 2), (314, 7, 120, 2), (317, 0, 138, 0), (324, 7, 137, 2), (330, 0, 158, 0), (334, 0, 159, 0), (340, 7, 99, 2), (347, 7, 101, 2), (360, 7, 106, 2), (369, 7, 100, 2), (372, 7, 102, 2), (375, 7, 103, 2), (378, 7, 107, 2), (381, 7, 108, 2), (384, 7, 121, 2), (399, 7, 122, 2), (402, 7, 123, 2), (426, 0, 134, 0), (430, 7, 147, 2), (433, 7, 170, 2), (437, 7, 160, 2), (440, 7, 148, 2), (444, 7, 135, 2), (447, 7, 136, 2), (450, 7, 139, 2), (453, 7, 144, 2), (456, 7, 169, 2), (459, 7, 171, 2), (462, 7, 172, 2), (465, 7, 177, 2), (468, 7, 178, 2), (471, 7, 187, 2), (474, 7, 197, 2), (477, 0, 198, 0), (480, 7, 199, 2), (483, 7, 200, 2), (486, 7, 204, 2), (490, 7, 212, 2), (493, 7, 215, 2), (496, 7, 218, 2), (499, 7, 223, 2), (502, 7, 222, 2), (505, 7, 224, 2), (508, 7, 225, 2), (511, 7, 230, 2), (514, 0, 231, 0), (517, 0, 237, 0), (520, 7, 238, 2), (523, 7, 239, 2), (526, 7, 244, 2), (529, 7, 245, 2), (532, 7, 250, 2), (535, 7, 251, 2), (539, 7, 258, 2), (542, 0, 259, 0), (548, 7, 277, 2), (553, 7, 289, 2), (556, 7, 290, 2), (559, 7, 296, 2), (562, 0, 299, 0), (565, 7, 262, 2)]
  | 8 => [(11, 0, 4, 1), (36, 8, 27, 2), (43, 0, 28, 0), (47, 8, 29, 2), (50, 0, 30, 0), (53, 8, 31, 2), (56, 0, 32, 0), (66, 18, 35, 2), (72, 18, 39, 2), (76, 8, 40, 2), (80, 3, 42, 2), (86, 8, 43, 2), (90, 8, 33, 2), (93, 8, 46, 2), (97, 8, 45, 2), (104, 8, 52, 2), (108, 16, 54, 2), (114, 17, 55, 3), (120, 17, 57, 3), (129, 1, 48, 2), (144, 8, 49, 2), (162, 8, 58, 2), (166, 0, 60, 1), (171, 8, 47, 2), (180, 8, 44, 2), (185, 16, 68, 2), (194, 0, 70, 1), (202, 8, 84, 2), (206, 8, 83, 2), (213, 0, 79, 1), (216, 8, 82, 2), (223, 8, 72, 2), (228, 0, 74, 1), (231, 8, 81, 2), (234, 8, 75, 2), (237, 8, 80, 2), (240, 8, 78, 2), (251, 0, 76, 1), (256, 0, 77, 1), (267, 16, 10, 2), (287, 8, 41, 2), (291, 8, 50, 2), (293, 8, 51, 2), (295, 8, 69, 2), (297, 8, 71, 2), (299, 8, 85, 2), (306, 8, 86, 2)]
  | 9 => [(3, 0, 59, 1)]
  | 10 => [(1, 0, 59, 1)]
  | 11 => [(1, 0, 73, 1), (13, 11, 154, 2), (13, 12, 150, 2), (13, 13, 151, 2), (13, 14, 153, 2)]
  | 12 => [(1, 0, 73, 1)]
  | 13 => [(1, 0, 73, 1)]
  | 14 => [(1, 0, 73, 1), (20, 11, 154, 2), (20, 12, 150, 2), (20, 13, 151, 2), (20, 14, 153, 2), (24, 0, 152, 0)]
  | 16 => [(1, 0, 2, 1), (66, 0, 64, 0), (69, 16, 65, 2), (73, 0, 62, 0), (118, 0, 12, 0), (123, 16, 13, 2), (129, 16, 66, 2), (131, 16, 67, 2), (144, 16, 162, 2), (269, 0, 53, 1)]
  | 17 => [(31, 17, 56, 2)]
  | 18 => [(335, 18, 34, 2), (492, 18, 36, 2), (495, 0, 38, 0), (1059, 0, 11, 0)]
  | 19 => [(38, 0, 192, 0), (42, 0, 194, 2), (49, 4, 208, 2), (49, 5, 209, 2), (62, 0, 193, 0)]
  | 23 => [(1, 0, 1, 1)]
  | 24 => [(105, 0, 11, 0)]
  | 26 => [(9, 0, 37, 0)]
  | 27 => [(201, 0, 61, 0)]
  | 29 => [(300, 0, 63, 0)]
  | 31 => [(9, 0, 18, 1), (12, 0, 19, 1), (13, 0, 21, 2), (17, 7, 23, 2), (18, 0, 24, 2), (22, 7, 25, 2), (23, 0, 89, 2), (27, 7, 124, 2), (28, 0, 125, 2), (31, 7, 126, 2), (32, 0, 133, 2), (36, 7, 140, 2), (37, 0, 143, 2), (40, 7, 145, 2), (41, 0, 146, 2), (45, 7, 149, 2), (46, 0, 157, 2), (49, 7, 161, 2), (50, 0, 168, 2), (54, 7, 173, 2), (55, 0, 176, 2), (58, 7, 179, 2), (59, 0, 180, 2), (62, 7, 181, 2), (63, 0, 182, 2), (66, 7, 183, 2), (67, 0, 186, 2), (71, 7, 188, 2), (72, 0, 189, 2), (75, 7, 190, 2), (76, 0, 196, 2), (79, 7, 201, 2), (80, 0, 203, 2), (83, 7, 205, 2), (84, 0, 206, 2), (87, 7, 207, 2), (88, 0, 211, 2), (91, 7, 213, 2), (92, 0, 214, 2), (95, 7, 216, 2), (96, 0, 217, 2), (99, 7, 219, 2), (100, 0, 221, 2), (103, 7, 226, 2), (104, 0, 229, 2), (107, 7, 232, 2), (108, 0, 236, 2), (111, 7, 240, 2), (112, 0, 243, 2), (115, 7, 246, 2), (116, 0, 249, 2), (119, 7, 252, 2), (120, 0, 253, 2), (123, 7, 254, 2), (124, 0, 257, 2), (127, 7, 260, 2), (128, 0, 261, 2), (131, 7, 262, 2), (132, 0, 263, 2), (135, 7, 264, 2), (136, 0, 265, 2), (139, 7, 266, 2), (140, 0, 268, 2), (143, 7, 269, 2), (144, 0, 270, 2), (147, 7, 271, 2), (148, 0, 272, 2), (151, 7, 273, 2), (152, 0, 276, 2), (155, 7, 278, 2), (156, 0, 279, 2), (159, 7, 280, 2), (160, 0, 281, 2), (164, 7, 282, 2), (165, 0, 283, 2), (168, 7, 284, 2), (169, 0, 288, 2), (172, 7, 291, 2), (173, 0, 292, 2), (176, 7, 293, 2), (177, 0, 295, 2), (180, 7, 297, 2), (181, 0, 298, 2), (184, 7, 300, 2), (185, 0, 301, 2), (188, 7, 302, 2), (189, 0, 303, 2), (192, 7, 304, 2)]
  | _ => []
def ai_cT (kd o i c : Nat) : Option Nat := ((ai_ctl o).find? fun e => e.1 == i && e.2.1 == c && e.2.2.2 == kd).map fun e => e.2.2.1
def ai_oIl : List (Nat × Nat) := [(0, 10), (1, 3), (2, 3), (6, 1), (7, 1), (8, 3), (15, 3), (17, 7), (19, 9), (20, 1), (21, 1), (22, 1)]
def ai_oI (o i : Nat) : Bool := ai_oIl.any fun e => e.1 == o && e.2 == i
def ai_cpIl : List (Nat × Nat) := [(0, 330), (2, 30), (16, 112), (29, 150)]
def ai_cpI (o i : Nat) : Bool := ai_cpIl.any fun e => e.1 == o && e.2 == i
def ai_gcIl : List (Nat × Nat) := [(29, 86)]
def ai_gcI (o i : Nat) : Bool := ai_gcIl.any fun e => e.1 == o && e.2 == i
def ai_wIl : List (Nat × Nat) := [(0, 41)]
def ai_wI (o i : Nat) : Bool := ai_wIl.any fun e => e.1 == o && e.2 == i
def ai_mxIl : List (Nat × Nat) := [(0, 7), (16, 79), (27, 194)]
def ai_mxI (o i : Nat) : Bool := ai_mxIl.any fun e => e.1 == o && e.2 == i
def ai_mnIl : List (Nat × Nat) := [(0, 1), (2, 98), (29, 304)]
def ai_mnI (o i : Nat) : Bool := ai_mnIl.any fun e => e.1 == o && e.2 == i
def ai_abIl : List (Nat × Nat) := [(0, 293)]
def ai_abI (o i : Nat) : Bool := ai_abIl.any fun e => e.1 == o && e.2 == i
def ai_lil (o : Nat) : List (Nat × Int32) := match o with
  | 0 => [(406, 100000)]
  | 7 => [(489, 1000000), (552, 100000)]
  | 27 => [(200, 2147483639)]
  | 30 => [(265, 1431655765), (266, 858993459), (267, 252645135)]
  | _ => []
def ai_lsl (o : Nat) : List (Nat × Nat) := match o with
  | 8 => [(132, 9), (169, 10), (178, 11), (209, 14), (219, 13), (221, 12), (257, 0), (262, 1), (263, 2), (265, 3), (269, 4), (271, 5), (276, 6), (282, 7), (290, 8)]
  | 29 => [(110, 40)]
  | _ => []
def ai_lT (G : (Nat → Value) × (Nat → Option ((Nat × vp_A) ⊕ (Nat × (Nat → Value))))) (o i : Nat) : Option Value := match (ai_lil o).find? fun e => e.1 == i with
  | some e => some (.int e.2)
  | none => ((ai_lsl o).find? fun e => e.1 == i).map fun e => G.1 e.2
def ai_l2l (o : Nat) : List (Nat × Int64) := match o with
  | 7 => [(197, 512736126322), (199, 25209), (201, 27995157100326516), (203, 24948), (205, 1769107310), (207, 422775452260), (209, 2003395685), (211, 422607680115), (213, 1819238756), (215, 1751474548), (217, 439905906532), (219, 1685217655), (221, 7499639), (223, 109330212154734), (225, 32497657166128499), (227, 6844276), (229, 6385252), (231, 28530), (233, 7237492)]
  | _ => []
def ai_l2T (o i : Nat) : Option Value := ((ai_l2l o).find? fun e => e.1 == i).map fun e => .long e.2
def ai_gtl (o : Nat) : List (Nat × Nat) := match o with
  | 8 => [(100, 53), (243, 54)]
  | 16 => [(39, 50)]
  | 18 => [(38, 51), (1053, 52)]
  | _ => []
def ai_gT (G : (Nat → Value) × (Nat → Option ((Nat × vp_A) ⊕ (Nat × (Nat → Value))))) (o i : Nat) : Option Value := ((ai_gtl o).find? fun e => e.1 == i).map fun e => G.1 e.2
def ai_strs : List (Nat × Nat × String) := [(0, 257, "wate\x72"), (1, 262, "current"), (2, 263, "iron"), (3, 265, "board"), (4, 269, "load"), (5, 271, "heat"), (6, 276, "flood"), (7, 282, "draw"), (8, 290, "by"), (9, 132, "at"), (10, 169, "wide"), (11, 178, "bears"), (12, 221, "not"), (13, 219, "and"), (14, 209, "o\x72"), (15, 309, "row"), (16, 311, "column"), (17, 313, "strokes"), (18, 314, "hot")]
