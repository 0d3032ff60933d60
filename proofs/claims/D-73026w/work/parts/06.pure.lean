/-! THE PURE MACHINE'S TABLES (printed by gen/tables.py): own: the class's number, 50 more in a constructor -/
abbrev pm_T : Type := Nat × MethodName × ByteArray × Nat × Option FieldType
def pm_own (o : Nat) : String := match o % 50 with
  | 0 => "AnyKeyTown"
  | 1 => "AnyKeyTown$Roll"
  | 2 => "AnyKeyTown$Asked"
  | 3 => "AnyKeyTown$Moment"
  | 4 => "AnyKeyTown$Town"
  | 5 => "AnyKeyTown$Text"
  | 6 => "AnyKeyTownModel"
  | 7 => "AnyKeyTown$Reader"
  | 8 => "AnyKeyTown$Sum"
  | 9 => "AnyKeyTown$Row"
  | 10 => "AnyKeyTown$Number"
  | 11 => "AnyKeyTown$Letter"
  | 12 => "AnyKeyTown$Condition"
  | 13 => "AnyKeyTown$Some"
  | 14 => "AnyKeyTown$Not"
  | 15 => "AnyKeyTown$Compared"
  | 16 => "AnyKeyTown$Scribe"
  | 17 => "AnyKeyTown$Constable"
  | 18 => "AnyKeyTown$Dancer"
  | 19 => "AnyKeyTownLaw"
  | 20 => "java/lang/String"
  | 21 => "java/lang/StringLatin1"
  | 22 => "java/lang/Math"
  | 23 => "java/lang/StringUTF16"
  | 24 => "jdk/internal/util/Preconditions"
  | 25 => "java/lang/Character"
  | 26 => "java/lang/Integer"
  | 27 => "java/lang/Object"
  | _ => ""
abbrev pm_cl : List vw_C := [(RX0, TX0, 19), (RX1, TX1, 4), (RX3, TX3, 11), (RX4, TX4, 10), (RX5, TX5, 4), (RX6, TX6, 52), (RX7, TX7, 7), (RX9, TX9, 3), (RX10, TX10, 1), (RX11, TX11, 1), (RX13, TX13, 3), (RX14, TX14, 1), (RX15, TX15, 3), (RX17, TX17, 7), (RX18, TX18, 10)]
def mT_J0_indexOf : pm_T := (20, yJ0_indexOf, cJ0_indexOf, 2, Option.some Jvm.ClassFile.FieldType.int)
def mT_J0_indexOf_2 : pm_T := (20, yJ0_indexOf_2, cJ0_indexOf_2, 3, Option.some Jvm.ClassFile.FieldType.int)
def mT_J0_isLatin1 : pm_T := (20, yJ0_isLatin1, cJ0_isLatin1, 1, Option.some Jvm.ClassFile.FieldType.boolean)
def mT_J0_length : pm_T := (20, yJ0_length, cJ0_length, 1, Option.some Jvm.ClassFile.FieldType.int)
def mT_J0_coder : pm_T := (20, yJ0_coder, cJ0_coder, 1, Option.some Jvm.ClassFile.FieldType.byte)
def mT_J1_indexOf : pm_T := (21, yJ1_indexOf, cJ1_indexOf, 4, Option.some Jvm.ClassFile.FieldType.int)
def mT_J1_canEncode : pm_T := (21, yJ1_canEncode, cJ1_canEncode, 1, Option.some Jvm.ClassFile.FieldType.boolean)
def mT_J1_indexOfChar : pm_T := (21, yJ1_indexOfChar, cJ1_indexOfChar, 6, Option.some Jvm.ClassFile.FieldType.int)
def mT_J2_max : pm_T := (22, yJ2_max, cJ2_max, 2, Option.some Jvm.ClassFile.FieldType.int)
def mT_J2_min : pm_T := (22, yJ2_min, cJ2_min, 2, Option.some Jvm.ClassFile.FieldType.int)
def mT_J2_abs : pm_T := (22, yJ2_abs, cJ2_abs, 1, Option.some Jvm.ClassFile.FieldType.int)
def mT_J6_bitCount : pm_T := (26, yJ6_bitCount, cJ6_bitCount, 1, Option.some Jvm.ClassFile.FieldType.int)
def mT_J6_numberOfTrailingZeros : pm_T := (26, yJ6_numberOfTrailingZeros, cJ6_numberOfTrailingZeros, 2, Option.some Jvm.ClassFile.FieldType.int)
def mT_X0_init : pm_T := (50, yX0_init, cX0_init, 1, Option.none)
def mT_X0_feed : pm_T := (0, yX0_feed, cX0_feed, 6, Option.some Jvm.ClassFile.FieldType.int)
def mT_X0_push : pm_T := (0, yX0_push, cX0_push, 3, Option.none)
def mT_X0_law : pm_T := (0, yX0_law, cX0_law, 4, Option.some Jvm.ClassFile.FieldType.int)
def mT_X0_within : pm_T := (0, yX0_within, cX0_within, 3, Option.some Jvm.ClassFile.FieldType.boolean)
def mT_X0_orders : pm_T := (0, yX0_orders, cX0_orders, 4, Option.some Jvm.ClassFile.FieldType.int)
def mT_X0_in : pm_T := (0, yX0_in, cX0_in, 2, Option.some Jvm.ClassFile.FieldType.boolean)
def mT_X0_dance : pm_T := (0, yX0_dance, cX0_dance, 5, Option.some Jvm.ClassFile.FieldType.int)
def mT_X0_has : pm_T := (0, yX0_has, cX0_has, 2, Option.some Jvm.ClassFile.FieldType.boolean)
def mT_X0_evenings : pm_T := (0, yX0_evenings, cX0_evenings, 2, Option.some Jvm.ClassFile.FieldType.int)
def mT_X0_tells : pm_T := (0, yX0_tells, cX0_tells, 2, Option.some Jvm.ClassFile.FieldType.int)
def mT_X0_held : pm_T := (0, yX0_held, cX0_held, 2, Option.some Jvm.ClassFile.FieldType.int)
def mT_X0_tried : pm_T := (0, yX0_tried, cX0_tried, 3, Option.some Jvm.ClassFile.FieldType.int)
def mT_X0_personIs : pm_T := (0, yX0_personIs, cX0_personIs, 3, Option.some Jvm.ClassFile.FieldType.int)
def mT_X0_favours : pm_T := (0, yX0_favours, cX0_favours, 3, Option.some Jvm.ClassFile.FieldType.int)
def mT_X0_stayOut : pm_T := (0, yX0_stayOut, cX0_stayOut, 2, Option.some Jvm.ClassFile.FieldType.int)
def mT_X0_outOf : pm_T := (0, yX0_outOf, cX0_outOf, 4, Option.some Jvm.ClassFile.FieldType.int)
def mT_X0_groupOf : pm_T := (0, yX0_groupOf, cX0_groupOf, 5, Option.some Jvm.ClassFile.FieldType.int)
def mT_X0_lowest : pm_T := (0, yX0_lowest, cX0_lowest, 1, Option.some Jvm.ClassFile.FieldType.int)
def mT_X0_inOrder : pm_T := (0, yX0_inOrder, cX0_inOrder, 7, Option.some Jvm.ClassFile.FieldType.int)
def mT_X0_laysOrders : pm_T := (0, yX0_laysOrders, cX0_laysOrders, 4, Option.none)
def mT_X0_ways : pm_T := (0, yX0_ways, cX0_ways, 2, Option.some Jvm.ClassFile.FieldType.long)
def mT_X0_areTold : pm_T := (0, yX0_areTold, cX0_areTold, 2, Option.some Jvm.ClassFile.FieldType.boolean)
def mT_X0_keepsOut : pm_T := (0, yX0_keepsOut, cX0_keepsOut, 7, Option.some Jvm.ClassFile.FieldType.int)
def mT_X0_chain : pm_T := (0, yX0_chain, cX0_chain, 7, Option.some Jvm.ClassFile.FieldType.int)
def mT_X0_party : pm_T := (0, yX0_party, cX0_party, 4, Option.some Jvm.ClassFile.FieldType.int)
def mT_X0_isParty : pm_T := (0, yX0_isParty, cX0_isParty, 3, Option.some Jvm.ClassFile.FieldType.boolean)
def mT_X0_parties : pm_T := (0, yX0_parties, cX0_parties, 3, Option.some Jvm.ClassFile.FieldType.int)
def mT_X0_canParty : pm_T := (0, yX0_canParty, cX0_canParty, 7, Option.some Jvm.ClassFile.FieldType.boolean)
def mT_X0_mended : pm_T := (0, yX0_mended, cX0_mended, 4, Option.some Jvm.ClassFile.FieldType.int)
def mT_X0_groups : pm_T := (0, yX0_groups, cX0_groups, 3, Option.some Jvm.ClassFile.FieldType.int)
def mT_X0_longest : pm_T := (0, yX0_longest, cX0_longest, 5, Option.some Jvm.ClassFile.FieldType.int)
def mT_X0_luckless : pm_T := (0, yX0_luckless, cX0_luckless, 6, Option.some Jvm.ClassFile.FieldType.int)
def mT_X0_meeting : pm_T := (0, yX0_meeting, cX0_meeting, 4, Option.some Jvm.ClassFile.FieldType.int)
def mT_X0_stepsTo : pm_T := (0, yX0_stepsTo, cX0_stepsTo, 4, Option.some Jvm.ClassFile.FieldType.int)
def mT_X0_stretch : pm_T := (0, yX0_stretch, cX0_stretch, 6, Option.some Jvm.ClassFile.FieldType.int)
def mT_X0_between : pm_T := (0, yX0_between, cX0_between, 5, Option.some Jvm.ClassFile.FieldType.int)
def mT_X0_inDebt : pm_T := (0, yX0_inDebt, cX0_inDebt, 4, Option.some Jvm.ClassFile.FieldType.int)
def mT_X0_twoStreets : pm_T := (0, yX0_twoStreets, cX0_twoStreets, 5, Option.some Jvm.ClassFile.FieldType.int)
def mT_X0_foesOf : pm_T := (0, yX0_foesOf, cX0_foesOf, 4, Option.some Jvm.ClassFile.FieldType.int)
def mT_X0_across : pm_T := (0, yX0_across, cX0_across, 8, Option.some Jvm.ClassFile.FieldType.int)
def mT_X0_pairings : pm_T := (0, yX0_pairings, cX0_pairings, 6, Option.some Jvm.ClassFile.FieldType.int)
def mT_X0_madeEven : pm_T := (0, yX0_madeEven, cX0_madeEven, 2, Option.some Jvm.ClassFile.FieldType.int)
def mT_X0_mostOwed : pm_T := (0, yX0_mostOwed, cX0_mostOwed, 3, Option.some Jvm.ClassFile.FieldType.int)
def mT_X0_hermit : pm_T := (0, yX0_hermit, cX0_hermit, 5, Option.some Jvm.ClassFile.FieldType.int)
def mT_X0_fed : pm_T := (0, yX0_fed, cX0_fed, 2, Option.some Jvm.ClassFile.FieldType.int)
def mT_X0_burglar : pm_T := (0, yX0_burglar, cX0_burglar, 4, Option.some Jvm.ClassFile.FieldType.int)
def mT_X0_calls : pm_T := (0, yX0_calls, cX0_calls, 5, Option.some Jvm.ClassFile.FieldType.int)
def mT_X0_sorts : pm_T := (0, yX0_sorts, cX0_sorts, 4, Option.none)
def mT_X0_laysCalls : pm_T := (0, yX0_laysCalls, cX0_laysCalls, 4, Option.none)
def mT_X0_houseAt : pm_T := (0, yX0_houseAt, cX0_houseAt, 2, Option.some Jvm.ClassFile.FieldType.int)
def mT_X0_inTime : pm_T := (0, yX0_inTime, cX0_inTime, 3, Option.some Jvm.ClassFile.FieldType.int)
def mT_X0_changed : pm_T := (0, yX0_changed, cX0_changed, 6, Option.some Jvm.ClassFile.FieldType.int)
def mT_X0_seed : pm_T := (0, yX0_seed, cX0_seed, 2, Option.some Jvm.ClassFile.FieldType.boolean)
def mT_X0_keep : pm_T := (0, yX0_keep, cX0_keep, 1, Option.some Jvm.ClassFile.FieldType.int)
def mT_X0_undo : pm_T := (0, yX0_undo, cX0_undo, 1, Option.some Jvm.ClassFile.FieldType.boolean)
def mT_X0_check : pm_T := (0, yX0_check, cX0_check, 3, Option.some Jvm.ClassFile.FieldType.int)
def mT_X0_count : pm_T := (0, yX0_count, cX0_count, 2, Option.some Jvm.ClassFile.FieldType.int)
def mT_X0_twos : pm_T := (0, yX0_twos, cX0_twos, 6, Option.some Jvm.ClassFile.FieldType.int)
def mT_X0_favoursOfAll : pm_T := (0, yX0_favoursOfAll, cX0_favoursOfAll, 3, Option.some Jvm.ClassFile.FieldType.int)
def mT_X1_init : pm_T := (51, yX1_init, cX1_init, 1, Option.none)
def mT_X1_takes : pm_T := (1, yX1_takes, cX1_takes, 3, Option.none)
def mT_X1_isTold : pm_T := (1, yX1_isTold, cX1_isTold, 2, Option.some Jvm.ClassFile.FieldType.boolean)
def mT_X1_parts : pm_T := (1, yX1_parts, cX1_parts, 4, Option.none)
def mT_X1_friends : pm_T := (1, yX1_friends, cX1_friends, 2, Option.some Jvm.ClassFile.FieldType.int)
def mT_X2_init : pm_T := (52, yX2_init, cX2_init, 1, Option.none)
def mT_X3_init : pm_T := (53, yX3_init, cX3_init, 1, Option.none)
def mT_X3_of : pm_T := (3, yX3_of, cX3_of, 7, Option.some (Jvm.ClassFile.FieldType.object "AnyKeyTown$Moment"))
def mT_X3_value : pm_T := (3, yX3_value, cX3_value, 2, Option.some Jvm.ClassFile.FieldType.int)
def mT_X3_by : pm_T := (3, yX3_by, cX3_by, 5, Option.some (Jvm.ClassFile.FieldType.object "AnyKeyTown$Moment"))
def mT_X4_init : pm_T := (54, yX4_init, cX4_init, 2, Option.none)
def mT_X4_goes : pm_T := (4, yX4_goes, cX4_goes, 3, Option.some (Jvm.ClassFile.FieldType.object "AnyKeyTown$Town"))
def mT_X4_eveningGoes : pm_T := (4, yX4_eveningGoes, cX4_eveningGoes, 4, Option.none)
def mT_X4_draw : pm_T := (4, yX4_draw, cX4_draw, 1, Option.some Jvm.ClassFile.FieldType.int)
def mT_X4_asked : pm_T := (4, yX4_asked, cX4_asked, 3, Option.some (Jvm.ClassFile.FieldType.object "AnyKeyTown$Moment"))
def mT_X4_chosen : pm_T := (4, yX4_chosen, cX4_chosen, 7, Option.some Jvm.ClassFile.FieldType.int)
def mT_X4_beds : pm_T := (4, yX4_beds, cX4_beds, 6, Option.some Jvm.ClassFile.FieldType.int)
def mT_X4_takes : pm_T := (4, yX4_takes, cX4_takes, 4, Option.some (Jvm.ClassFile.FieldType.object "AnyKeyTown$Town"))
def mT_X4_nightsOfAll : pm_T := (4, yX4_nightsOfAll, cX4_nightsOfAll, 3, Option.some Jvm.ClassFile.FieldType.int)
def mT_X4_favoursOf : pm_T := (4, yX4_favoursOf, cX4_favoursOf, 5, Option.some Jvm.ClassFile.FieldType.int)
def mT_X5_init : pm_T := (55, yX5_init, cX5_init, 1, Option.none)
def mT_X5_says : pm_T := (5, yX5_says, cX5_says, 4, Option.some Jvm.ClassFile.FieldType.boolean)
def mT_X5_tells : pm_T := (5, yX5_tells, cX5_tells, 4, Option.some Jvm.ClassFile.FieldType.int)
def mT_X6_init : pm_T := (56, yX6_init, cX6_init, 1, Option.none)
def mT_X6_feed : pm_T := (6, yX6_feed, cX6_feed, 6, Option.some Jvm.ClassFile.FieldType.int)
def mT_X6_types : pm_T := (6, yX6_types, cX6_types, 3, Option.none)
def mT_X6_law : pm_T := (6, yX6_law, cX6_law, 4, Option.some Jvm.ClassFile.FieldType.int)
def mT_X6_in : pm_T := (6, yX6_in, cX6_in, 3, Option.some Jvm.ClassFile.FieldType.boolean)
def mT_X6_beginsText : pm_T := (6, yX6_beginsText, cX6_beginsText, 2, Option.none)
def mT_X6_readsRule : pm_T := (6, yX6_readsRule, cX6_readsRule, 2, Option.some Jvm.ClassFile.FieldType.boolean)
def mT_X6_here : pm_T := (6, yX6_here, cX6_here, 1, Option.some Jvm.ClassFile.FieldType.int)
def mT_X6_wrongAt : pm_T := (6, yX6_wrongAt, cX6_wrongAt, 3, Option.some Jvm.ClassFile.FieldType.boolean)
def mT_X6_readsSum : pm_T := (6, yX6_readsSum, cX6_readsSum, 3, Option.some Jvm.ClassFile.FieldType.boolean)
def mT_X6_readsFactor : pm_T := (6, yX6_readsFactor, cX6_readsFactor, 2, Option.some Jvm.ClassFile.FieldType.boolean)
def mT_X6_opens : pm_T := (6, yX6_opens, cX6_opens, 2, Option.some Jvm.ClassFile.FieldType.boolean)
def mT_X6_isDigit : pm_T := (6, yX6_isDigit, cX6_isDigit, 1, Option.some Jvm.ClassFile.FieldType.boolean)
def mT_X6_readsNumber : pm_T := (6, yX6_readsNumber, cX6_readsNumber, 2, Option.some Jvm.ClassFile.FieldType.boolean)
def mT_X6_notes : pm_T := (6, yX6_notes, cX6_notes, 3, Option.none)
def mT_X6_factOf : pm_T := (6, yX6_factOf, cX6_factOf, 1, Option.some Jvm.ClassFile.FieldType.int)
def mT_X6_sumSign : pm_T := (6, yX6_sumSign, cX6_sumSign, 1, Option.some Jvm.ClassFile.FieldType.int)
def mT_X6_closesSums : pm_T := (6, yX6_closesSums, cX6_closesSums, 2, Option.none)
def mT_X6_waitTop : pm_T := (6, yX6_waitTop, cX6_waitTop, 1, Option.some Jvm.ClassFile.FieldType.int)
def mT_X6_hasOpenSum : pm_T := (6, yX6_hasOpenSum, cX6_hasOpenSum, 3, Option.some Jvm.ClassFile.FieldType.boolean)
def mT_X6_readsCondition : pm_T := (6, yX6_readsCondition, cX6_readsCondition, 1, Option.some Jvm.ClassFile.FieldType.boolean)
def mT_X6_readsCompared : pm_T := (6, yX6_readsCompared, cX6_readsCompared, 2, Option.some Jvm.ClassFile.FieldType.boolean)
def mT_X6_endsPiece : pm_T := (6, yX6_endsPiece, cX6_endsPiece, 1, Option.none)
def mT_X6_lands : pm_T := (6, yX6_lands, cX6_lands, 3, Option.none)
def mT_X6_jumps : pm_T := (6, yX6_jumps, cX6_jumps, 2, Option.none)
def mT_X6_takes : pm_T := (6, yX6_takes, cX6_takes, 2, Option.some Jvm.ClassFile.FieldType.boolean)
def mT_X6_orders : pm_T := (6, yX6_orders, cX6_orders, 3, Option.some Jvm.ClassFile.FieldType.int)
def mT_X6_laysAside : pm_T := (6, yX6_laysAside, cX6_laysAside, 2, Option.none)
def mT_X6_readsOrder : pm_T := (6, yX6_readsOrder, cX6_readsOrder, 4, Option.some Jvm.ClassFile.FieldType.boolean)
def mT_X6_isLetter : pm_T := (6, yX6_isLetter, cX6_isLetter, 1, Option.some Jvm.ClassFile.FieldType.boolean)
def mT_X6_readsHouse : pm_T := (6, yX6_readsHouse, cX6_readsHouse, 3, Option.some Jvm.ClassFile.FieldType.boolean)
def mT_X6_has : pm_T := (6, yX6_has, cX6_has, 2, Option.some Jvm.ClassFile.FieldType.boolean)
def mT_X6_isTold : pm_T := (6, yX6_isTold, cX6_isTold, 2, Option.some Jvm.ClassFile.FieldType.boolean)
def mT_X6_readsOther : pm_T := (6, yX6_readsOther, cX6_readsOther, 4, Option.some Jvm.ClassFile.FieldType.boolean)
def mT_X6_putsBack : pm_T := (6, yX6_putsBack, cX6_putsBack, 2, Option.none)
def mT_X6_dance : pm_T := (6, yX6_dance, cX6_dance, 4, Option.some Jvm.ClassFile.FieldType.int)
def mT_X6_readsDance : pm_T := (6, yX6_readsDance, cX6_readsDance, 3, Option.some Jvm.ClassFile.FieldType.boolean)
def mT_X6_size : pm_T := (6, yX6_size, cX6_size, 1, Option.some Jvm.ClassFile.FieldType.int)
def mT_X6_evenings : pm_T := (6, yX6_evenings, cX6_evenings, 2, Option.some Jvm.ClassFile.FieldType.int)
def mT_X6_eveningsGo : pm_T := (6, yX6_eveningsGo, cX6_eveningsGo, 3, Option.none)
def mT_X6_eveningGoes : pm_T := (6, yX6_eveningGoes, cX6_eveningGoes, 4, Option.none)
def mT_X6_feels : pm_T := (6, yX6_feels, cX6_feels, 3, Option.none)
def mT_X6_bits : pm_T := (6, yX6_bits, cX6_bits, 3, Option.some Jvm.ClassFile.FieldType.int)
def mT_X6_holdsAny : pm_T := (6, yX6_holdsAny, cX6_holdsAny, 3, Option.some Jvm.ClassFile.FieldType.boolean)
def mT_X6_reckonsTo : pm_T := (6, yX6_reckonsTo, cX6_reckonsTo, 8, Option.some Jvm.ClassFile.FieldType.int)
def mT_X6_reckon : pm_T := (6, yX6_reckon, cX6_reckon, 3, Option.some Jvm.ClassFile.FieldType.int)
def mT_X6_likedMost : pm_T := (6, yX6_likedMost, cX6_likedMost, 6, Option.some Jvm.ClassFile.FieldType.int)
def mT_X6_friendsOf : pm_T := (6, yX6_friendsOf, cX6_friendsOf, 2, Option.some Jvm.ClassFile.FieldType.int)
def mT_X6_feelsTwo : pm_T := (6, yX6_feelsTwo, cX6_feelsTwo, 3, Option.none)
def mT_X6_apart : pm_T := (6, yX6_apart, cX6_apart, 3, Option.some Jvm.ClassFile.FieldType.int)
def mT_X6_favoursOf : pm_T := (6, yX6_favoursOf, cX6_favoursOf, 3, Option.some Jvm.ClassFile.FieldType.int)
def mT_X6_byLaw : pm_T := (6, yX6_byLaw, cX6_byLaw, 4, Option.some Jvm.ClassFile.FieldType.int)
def mT_X6_min : pm_T := (6, yX6_min, cX6_min, 2, Option.some Jvm.ClassFile.FieldType.int)
def mT_X6_goesToBed : pm_T := (6, yX6_goesToBed, cX6_goesToBed, 5, Option.none)
def mT_X6_tried : pm_T := (6, yX6_tried, cX6_tried, 4, Option.some Jvm.ClassFile.FieldType.int)
def mT_X6_copies : pm_T := (6, yX6_copies, cX6_copies, 3, Option.none)
def mT_X6_nightsOfAll : pm_T := (6, yX6_nightsOfAll, cX6_nightsOfAll, 3, Option.some Jvm.ClassFile.FieldType.int)
def mT_X6_favoursToAll : pm_T := (6, yX6_favoursToAll, cX6_favoursToAll, 4, Option.some Jvm.ClassFile.FieldType.int)
def mT_X6_personIs : pm_T := (6, yX6_personIs, cX6_personIs, 3, Option.some Jvm.ClassFile.FieldType.int)
def mT_X6_favoursOfAllTo : pm_T := (6, yX6_favoursOfAllTo, cX6_favoursOfAllTo, 4, Option.some Jvm.ClassFile.FieldType.int)
def mT_X6_favours : pm_T := (6, yX6_favours, cX6_favours, 3, Option.some Jvm.ClassFile.FieldType.int)
def mT_X6_stayOut : pm_T := (6, yX6_stayOut, cX6_stayOut, 2, Option.some Jvm.ClassFile.FieldType.int)
def mT_X6_mustStay : pm_T := (6, yX6_mustStay, cX6_mustStay, 5, Option.some Jvm.ClassFile.FieldType.int)
def mT_X6_groupOf : pm_T := (6, yX6_groupOf, cX6_groupOf, 6, Option.some Jvm.ClassFile.FieldType.int)
def mT_X6_inOrder : pm_T := (6, yX6_inOrder, cX6_inOrder, 8, Option.some Jvm.ClassFile.FieldType.int)
def mT_X6_lowest : pm_T := (6, yX6_lowest, cX6_lowest, 2, Option.some Jvm.ClassFile.FieldType.int)
def mT_X6_canGo : pm_T := (6, yX6_canGo, cX6_canGo, 6, Option.some Jvm.ClassFile.FieldType.boolean)
def mT_X6_ways : pm_T := (6, yX6_ways, cX6_ways, 7, Option.some Jvm.ClassFile.FieldType.long)
def mT_X6_keepsOut : pm_T := (6, yX6_keepsOut, cX6_keepsOut, 8, Option.some Jvm.ClassFile.FieldType.int)
def mT_X6_quarrels : pm_T := (6, yX6_quarrels, cX6_quarrels, 4, Option.none)
def mT_X6_chain : pm_T := (6, yX6_chain, cX6_chain, 7, Option.some Jvm.ClassFile.FieldType.int)
def mT_X6_party : pm_T := (6, yX6_party, cX6_party, 4, Option.some Jvm.ClassFile.FieldType.int)
def mT_X6_isParty : pm_T := (6, yX6_isParty, cX6_isParty, 3, Option.some Jvm.ClassFile.FieldType.boolean)
def mT_X6_twoStreets : pm_T := (6, yX6_twoStreets, cX6_twoStreets, 6, Option.some Jvm.ClassFile.FieldType.int)
def mT_X6_parties : pm_T := (6, yX6_parties, cX6_parties, 3, Option.some Jvm.ClassFile.FieldType.int)
def mT_X6_fits : pm_T := (6, yX6_fits, cX6_fits, 6, Option.some Jvm.ClassFile.FieldType.boolean)
def mT_X6_usedAhead : pm_T := (6, yX6_usedAhead, cX6_usedAhead, 4, Option.some Jvm.ClassFile.FieldType.int)
def mT_X6_canJoin : pm_T := (6, yX6_canJoin, cX6_canJoin, 4, Option.some Jvm.ClassFile.FieldType.boolean)
def mT_X6_mended : pm_T := (6, yX6_mended, cX6_mended, 8, Option.some Jvm.ClassFile.FieldType.int)
def mT_X6_max : pm_T := (6, yX6_max, cX6_max, 2, Option.some Jvm.ClassFile.FieldType.int)
def mT_X6_longest : pm_T := (6, yX6_longest, cX6_longest, 7, Option.some Jvm.ClassFile.FieldType.int)
def mT_X6_luckless : pm_T := (6, yX6_luckless, cX6_luckless, 6, Option.some Jvm.ClassFile.FieldType.int)
def mT_X6_stretch : pm_T := (6, yX6_stretch, cX6_stretch, 6, Option.some Jvm.ClassFile.FieldType.int)
def mT_X6_isHouse : pm_T := (6, yX6_isHouse, cX6_isHouse, 3, Option.some Jvm.ClassFile.FieldType.boolean)
def mT_X6_inDebt : pm_T := (6, yX6_inDebt, cX6_inDebt, 4, Option.some Jvm.ClassFile.FieldType.int)
def mT_X6_meeting : pm_T := (6, yX6_meeting, cX6_meeting, 4, Option.some Jvm.ClassFile.FieldType.int)
def mT_X6_stepsTo : pm_T := (6, yX6_stepsTo, cX6_stepsTo, 4, Option.some Jvm.ClassFile.FieldType.int)
def mT_X6_across : pm_T := (6, yX6_across, cX6_across, 5, Option.some Jvm.ClassFile.FieldType.int)
def mT_X6_pairs : pm_T := (6, yX6_pairs, cX6_pairs, 6, Option.none)
def mT_X6_madeEven : pm_T := (6, yX6_madeEven, cX6_madeEven, 2, Option.some Jvm.ClassFile.FieldType.int)
def mT_X6_mostOwed : pm_T := (6, yX6_mostOwed, cX6_mostOwed, 3, Option.some Jvm.ClassFile.FieldType.int)
def mT_X6_hermit : pm_T := (6, yX6_hermit, cX6_hermit, 5, Option.some Jvm.ClassFile.FieldType.int)
def mT_X6_octet : pm_T := (6, yX6_octet, cX6_octet, 2, Option.some Jvm.ClassFile.FieldType.int)
def mT_X6_burglar : pm_T := (6, yX6_burglar, cX6_burglar, 4, Option.some Jvm.ClassFile.FieldType.int)
def mT_X6_calls : pm_T := (6, yX6_calls, cX6_calls, 5, Option.some Jvm.ClassFile.FieldType.int)
def mT_X6_callsAt : pm_T := (6, yX6_callsAt, cX6_callsAt, 9, Option.some Jvm.ClassFile.FieldType.int)
def mT_X6_changed : pm_T := (6, yX6_changed, cX6_changed, 4, Option.some Jvm.ClassFile.FieldType.int)
def mT_X6_mostHoused : pm_T := (6, yX6_mostHoused, cX6_mostHoused, 6, Option.some Jvm.ClassFile.FieldType.int)
def mT_X6_allHoused : pm_T := (6, yX6_allHoused, cX6_allHoused, 5, Option.some Jvm.ClassFile.FieldType.int)
def mT_X6_between : pm_T := (6, yX6_between, cX6_between, 5, Option.some Jvm.ClassFile.FieldType.int)
def mT_X6_seed : pm_T := (6, yX6_seed, cX6_seed, 2, Option.some Jvm.ClassFile.FieldType.boolean)
def mT_X6_keep : pm_T := (6, yX6_keep, cX6_keep, 1, Option.some Jvm.ClassFile.FieldType.int)
def mT_X6_undo : pm_T := (6, yX6_undo, cX6_undo, 1, Option.some Jvm.ClassFile.FieldType.boolean)
def mT_X6_check : pm_T := (6, yX6_check, cX6_check, 3, Option.some Jvm.ClassFile.FieldType.int)
def mT_X6_count : pm_T := (6, yX6_count, cX6_count, 2, Option.some Jvm.ClassFile.FieldType.int)
def mT_X6_twos : pm_T := (6, yX6_twos, cX6_twos, 3, Option.some Jvm.ClassFile.FieldType.int)
def mT_X6_favoursOfAll : pm_T := (6, yX6_favoursOfAll, cX6_favoursOfAll, 3, Option.some Jvm.ClassFile.FieldType.int)
def mT_X7_init : pm_T := (57, yX7_init, cX7_init, 3, Option.none)
def mT_X7_read : pm_T := (7, yX7_read, cX7_read, 2, Option.some Jvm.ClassFile.FieldType.int)
def mT_X7_isGood : pm_T := (7, yX7_isGood, cX7_isGood, 1, Option.some Jvm.ClassFile.FieldType.boolean)
def mT_X7_clause : pm_T := (7, yX7_clause, cX7_clause, 4, Option.none)
def mT_X7_here : pm_T := (7, yX7_here, cX7_here, 1, Option.some Jvm.ClassFile.FieldType.int)
def mT_X7_bad : pm_T := (7, yX7_bad, cX7_bad, 3, Option.none)
def mT_X7_sum : pm_T := (7, yX7_sum, cX7_sum, 4, Option.some (Jvm.ClassFile.FieldType.object "AnyKeyTown$Sum"))
def mT_X7_product : pm_T := (7, yX7_product, cX7_product, 4, Option.some (Jvm.ClassFile.FieldType.object "AnyKeyTown$Sum"))
def mT_X7_factor : pm_T := (7, yX7_factor, cX7_factor, 3, Option.some (Jvm.ClassFile.FieldType.object "AnyKeyTown$Sum"))
def mT_X7_opens : pm_T := (7, yX7_opens, cX7_opens, 1, Option.none)
def mT_X7_must : pm_T := (7, yX7_must, cX7_must, 2, Option.none)
def mT_X7_seesDigit : pm_T := (7, yX7_seesDigit, cX7_seesDigit, 1, Option.some Jvm.ClassFile.FieldType.boolean)
def mT_X7_number : pm_T := (7, yX7_number, cX7_number, 3, Option.some Jvm.ClassFile.FieldType.int)
def mT_X7_condition : pm_T := (7, yX7_condition, cX7_condition, 3, Option.some (Jvm.ClassFile.FieldType.object "AnyKeyTown$Condition"))
def mT_X7_pieces : pm_T := (7, yX7_pieces, cX7_pieces, 3, Option.some (Jvm.ClassFile.FieldType.object "AnyKeyTown$Condition"))
def mT_X7_piece : pm_T := (7, yX7_piece, cX7_piece, 4, Option.some (Jvm.ClassFile.FieldType.object "AnyKeyTown$Condition"))
def mT_X8_init : pm_T := (58, yX8_init, cX8_init, 1, Option.none)
def mT_X8_told : pm_T := (8, yX8_told, cX8_told, 3, Option.some Jvm.ClassFile.FieldType.int)
def mT_X9_init : pm_T := (59, yX9_init, cX9_init, 3, Option.none)
def mT_X9_worth : pm_T := (9, yX9_worth, cX9_worth, 4, Option.some Jvm.ClassFile.FieldType.int)
def mT_X9_worked : pm_T := (9, yX9_worked, cX9_worked, 4, Option.some Jvm.ClassFile.FieldType.int)
def mT_X10_init : pm_T := (60, yX10_init, cX10_init, 2, Option.none)
def mT_X10_worth : pm_T := (10, yX10_worth, cX10_worth, 2, Option.some Jvm.ClassFile.FieldType.int)
def mT_X11_init : pm_T := (61, yX11_init, cX11_init, 2, Option.none)
def mT_X11_worth : pm_T := (11, yX11_worth, cX11_worth, 2, Option.some Jvm.ClassFile.FieldType.int)
def mT_X12_init : pm_T := (62, yX12_init, cX12_init, 1, Option.none)
def mT_X13_init : pm_T := (63, yX13_init, cX13_init, 3, Option.none)
def mT_X13_holds : pm_T := (13, yX13_holds, cX13_holds, 4, Option.some Jvm.ClassFile.FieldType.int)
def mT_X14_init : pm_T := (64, yX14_init, cX14_init, 2, Option.none)
def mT_X14_holds : pm_T := (14, yX14_holds, cX14_holds, 3, Option.some Jvm.ClassFile.FieldType.int)
def mT_X15_init : pm_T := (65, yX15_init, cX15_init, 4, Option.none)
def mT_X15_holds : pm_T := (15, yX15_holds, cX15_holds, 5, Option.some Jvm.ClassFile.FieldType.int)
def mT_X16_init : pm_T := (66, yX16_init, cX16_init, 3, Option.none)
def mT_X16_place : pm_T := (16, yX16_place, cX16_place, 1, Option.some Jvm.ClassFile.FieldType.int)
def mT_X16_person : pm_T := (16, yX16_person, cX16_person, 2, Option.some Jvm.ClassFile.FieldType.int)
def mT_X16_here : pm_T := (16, yX16_here, cX16_here, 1, Option.some Jvm.ClassFile.FieldType.int)
def mT_X16_isGood : pm_T := (16, yX16_isGood, cX16_isGood, 1, Option.some Jvm.ClassFile.FieldType.boolean)
def mT_X16_bad : pm_T := (16, yX16_bad, cX16_bad, 3, Option.none)
def mT_X16_goesOn : pm_T := (16, yX16_goesOn, cX16_goesOn, 1, Option.none)
def mT_X16_sees : pm_T := (16, yX16_sees, cX16_sees, 3, Option.some Jvm.ClassFile.FieldType.boolean)
def mT_X16_isEnd : pm_T := (16, yX16_isEnd, cX16_isEnd, 1, Option.some Jvm.ClassFile.FieldType.boolean)
def mT_X16_answer : pm_T := (16, yX16_answer, cX16_answer, 2, Option.some Jvm.ClassFile.FieldType.int)
def mT_X17_init : pm_T := (67, yX17_init, cX17_init, 3, Option.none)
def mT_X17_read : pm_T := (17, yX17_read, cX17_read, 1, Option.some Jvm.ClassFile.FieldType.int)
def mT_X17_line : pm_T := (17, yX17_line, cX17_line, 4, Option.none)
def mT_X17_house : pm_T := (17, yX17_house, cX17_house, 4, Option.none)
def mT_X17_quarrel : pm_T := (17, yX17_quarrel, cX17_quarrel, 5, Option.none)
def mT_X18_init : pm_T := (68, yX18_init, cX18_init, 4, Option.none)
def mT_X18_read : pm_T := (18, yX18_read, cX18_read, 2, Option.some Jvm.ClassFile.FieldType.int)
def mT_X18_two : pm_T := (18, yX18_two, cX18_two, 5, Option.none)
def pm_tf (o : Nat) : List (Nat × List (Nat × Nat)) := match o with
  | 0 => [(16, [(0, 0)]), (22, [(1, 2)]), (28, [(0, 7)]), (32, [(0, 2)]), (52, [(0, 1)]), (63, [(0, 3)]), (67, [(0, 4)]), (70, [(0, 5)]), (73, [(0, 6)]), (79, [(0, 10)]), (83, [(0, 11)]), (87, [(0, 12)]), (90, [(0, 13)]), (93, [(0, 14)]), (96, [(0, 15)]), (101, [(0, 16)]), (104, [(0, 17)]), (107, [(0, 18)]), (110, [(3, 4)]), (113, [(0, 8)]), (133, [(6, 1)]), (152, [(1, 3)]), (155, [(14, 6)]), (158, [(14, 8)]), (165, [(3, 5)]), (175, [(3, 6)]), (181, [(3, 1)]), (188, [(1, 0)]), (194, [(1, 1)]), (197, [(3, 0)]), (275, [(0, 9)]), (279, [(3, 3)]), (288, [(4, 3)])]
  | 1 => [(9, [(1, 0)]), (15, [(1, 1)]), (18, [(1, 2)]), (22, [(1, 3)])]
  | 3 => [(9, [(2, 1)]), (15, [(2, 2)]), (18, [(2, 3)]), (21, [(2, 4)]), (24, [(2, 5)]), (27, [(2, 6)]), (30, [(2, 7)]), (33, [(2, 8)]), (36, [(2, 9)]), (39, [(2, 10)])]
  | 4 => [(3, [(3, 9)]), (17, [(3, 0)]), (20, [(3, 1)]), (24, [(3, 2)]), (31, [(3, 3)]), (34, [(3, 4)]), (37, [(0, 0)]), (48, [(0, 2)]), (52, [(1, 0)]), (55, [(3, 7)]), (58, [(1, 3)]), (77, [(3, 8)]), (99, [(1, 2)]), (106, [(0, 7)]), (123, [(3, 5)])]
  | 5 => [(9, [(4, 0)]), (17, [(4, 1)]), (23, [(4, 2)]), (27, [(4, 3)])]
  | 6 => [(7, [(5, 0)]), (13, [(5, 1)]), (16, [(5, 2)]), (19, [(5, 3)]), (22, [(5, 4)]), (25, [(5, 5)]), (28, [(5, 6)]), (31, [(5, 11)]), (35, [(5, 22)]), (38, [(5, 23)]), (41, [(5, 24)]), (44, [(5, 25)]), (47, [(5, 26)]), (50, [(5, 27)]), (53, [(5, 28)]), (56, [(5, 29)]), (59, [(5, 30)]), (62, [(5, 31)]), (65, [(5, 32)]), (68, [(5, 33)]), (71, [(5, 34)]), (74, [(5, 36)]), (77, [(5, 40)]), (81, [(5, 45)]), (85, [(5, 46)]), (88, [(5, 47)]), (91, [(5, 48)]), (94, [(5, 49)]), (97, [(5, 50)]), (108, [(5, 7)]), (116, [(5, 12)]), (123, [(5, 13)]), (126, [(5, 14)]), (133, [(5, 15)]), (139, [(5, 16)]), (146, [(5, 18)]), (150, [(5, 17)]), (153, [(5, 19)]), (201, [(5, 20)]), (216, [(5, 21)]), (227, [(5, 8)]), (236, [(5, 35)]), (246, [(5, 9)]), (249, [(5, 10)]), (261, [(5, 37)]), (264, [(5, 39)]), (267, [(5, 38)]), (273, [(5, 41)]), (288, [(5, 42)]), (300, [(5, 44)]), (312, [(5, 43)]), (399, [(5, 51)])]
  | 7 => [(3, [(6, 6)]), (18, [(6, 1)]), (22, [(6, 0)]), (26, [(6, 2)]), (29, [(0, 6)]), (33, [(6, 4)]), (36, [(6, 5)]), (54, [(6, 3)]), (94, [(7, 2)]), (123, [(10, 2)]), (131, [(4, 3)]), (134, [(4, 0)]), (138, [(4, 1)]), (142, [(4, 2)])]
  | 8 => [(7, [(2, 0)])]
  | 9 => [(7, [(7, 0)]), (13, [(7, 1)]), (27, [(7, 2)])]
  | 10 => [(7, [(8, 0)])]
  | 11 => [(7, [(9, 0)])]
  | 13 => [(7, [(10, 0)]), (13, [(10, 1)]), (21, [(10, 2)])]
  | 14 => [(7, [(11, 0)])]
  | 15 => [(7, [(12, 0)]), (13, [(12, 2)]), (17, [(12, 1)]), (20, [(2, 0)])]
  | 16 => [(3, [(13, 4), (14, 4)]), (15, [(13, 0), (14, 0)]), (19, [(13, 1), (14, 1)]), (22, [(0, 6)]), (26, [(13, 2), (14, 2)]), (29, [(13, 3), (14, 3)])]
  | 17 => [(3, [(13, 6)]), (15, [(0, 1)]), (51, [(1, 3)]), (59, [(1, 2)]), (62, [(1, 0)]), (73, [(13, 5)])]
  | 18 => [(3, [(14, 9)]), (15, [(14, 5)]), (19, [(0, 0)]), (23, [(1, 0)]), (47, [(1, 3)]), (55, [(14, 6)]), (58, [(1, 1)]), (61, [(14, 7)]), (64, [(14, 8)])]
  | 20 => [(9, [(30, 0)]), (15, [(30, 1)])]
  | 50 => [(63, [(0, 3)])]
  | 56 => [(7, [(5, 0)])]
  | 67 => [(15, [(0, 1)]), (19, [(0, 0)])]
  | 68 => [(15, [(14, 5)]), (19, [(0, 0)]), (23, [(1, 0)])]
  | _ => []
def pm_tp (o : Nat) : List (Nat × List (Nat × Nat × Nat)) := match o with
  | 0 => [(28, [(0, 7, 2)]), (110, [(3, 4, 0)]), (113, [(0, 8, 0)]), (275, [(0, 9, 1)])]
  | 1 => [(18, [(1, 2, 0)]), (22, [(1, 3, 0)])]
  | 3 => [(9, [(2, 1, 0)]), (15, [(2, 2, 0)]), (18, [(2, 3, 0)]), (21, [(2, 4, 0)]), (24, [(2, 5, 0)]), (27, [(2, 6, 0)]), (30, [(2, 7, 0)]), (33, [(2, 8, 0)]), (36, [(2, 9, 0)]), (39, [(2, 10, 0)])]
  | 4 => [(27, [(3, 6, 0)]), (31, [(3, 3, 0)]), (34, [(3, 4, 0)]), (55, [(3, 7, 0)]), (77, [(3, 8, 0)]), (123, [(3, 5, 0)])]
  | 6 => [(108, [(5, 7, 0)]), (116, [(5, 12, 0)]), (123, [(5, 13, 0)]), (126, [(5, 14, 0)]), (133, [(5, 15, 0)]), (139, [(5, 16, 0)]), (146, [(5, 18, 0)]), (150, [(5, 17, 0)]), (153, [(5, 19, 0)]), (201, [(5, 20, 0)]), (216, [(5, 21, 0)]), (227, [(5, 8, 0)]), (236, [(5, 35, 0)]), (246, [(5, 9, 0)]), (249, [(5, 10, 0)]), (261, [(5, 37, 0)]), (264, [(5, 39, 0)]), (267, [(5, 38, 0)]), (273, [(5, 41, 0)]), (288, [(5, 42, 0)]), (300, [(5, 44, 0)]), (312, [(5, 43, 0)]), (399, [(5, 51, 1)])]
  | 7 => [(26, [(6, 2, 0)]), (33, [(6, 4, 0)]), (36, [(6, 5, 0)]), (54, [(6, 3, 0)]), (94, [(7, 2, 2)]), (123, [(10, 2, 2)]), (131, [(4, 3, 0)])]
  | 8 => [(7, [(2, 0, 1)])]
  | 9 => [(17, [(2, 0, 1)])]
  | 15 => [(20, [(2, 0, 1)])]
  | 16 => [(19, [(13, 1, 0), (14, 1, 0)]), (26, [(13, 2, 0), (14, 2, 0)]), (29, [(13, 3, 0), (14, 3, 0)])]
  | 17 => [(51, [(1, 3, 0)]), (59, [(1, 2, 0)]), (73, [(13, 5, 0)])]
  | 18 => [(55, [(14, 6, 0)]), (61, [(14, 7, 0)]), (64, [(14, 8, 0)])]
  | 50 => [(16, [(0, 0, 2)]), (28, [(0, 7, 2)]), (32, [(0, 2, 2)]), (52, [(0, 1, 2)]), (63, [(0, 3, 2)]), (67, [(0, 4, 2)]), (70, [(0, 5, 2)]), (73, [(0, 6, 2)]), (79, [(0, 10, 2)]), (83, [(0, 11, 2)]), (87, [(0, 12, 2)]), (90, [(0, 13, 2)]), (93, [(0, 14, 2)]), (96, [(0, 15, 2)]), (101, [(0, 16, 2)]), (104, [(0, 17, 2)]), (107, [(0, 18, 2)]), (110, [(3, 4, 0)])]
  | 51 => [(9, [(1, 0, 2)]), (15, [(1, 1, 2)])]
  | 54 => [(3, [(3, 9, 2)]), (17, [(3, 0, 2)]), (20, [(3, 1, 2)]), (24, [(3, 2, 2)]), (27, [(3, 6, 0)])]
  | 55 => [(9, [(4, 0, 2)]), (17, [(4, 1, 2)]), (23, [(4, 2, 2)])]
  | 56 => [(7, [(5, 0, 2)]), (13, [(5, 1, 2)]), (16, [(5, 2, 2)]), (19, [(5, 3, 2)]), (22, [(5, 4, 2)]), (25, [(5, 5, 2)]), (28, [(5, 6, 2)]), (31, [(5, 11, 2)]), (35, [(5, 22, 2)]), (38, [(5, 23, 2)]), (41, [(5, 24, 2)]), (44, [(5, 25, 2)]), (47, [(5, 26, 2)]), (50, [(5, 27, 2)]), (53, [(5, 28, 2)]), (56, [(5, 29, 2)]), (59, [(5, 30, 2)]), (62, [(5, 31, 2)]), (65, [(5, 32, 2)]), (68, [(5, 33, 2)]), (71, [(5, 34, 2)]), (74, [(5, 36, 2)]), (77, [(5, 40, 2)]), (81, [(5, 45, 2)]), (85, [(5, 46, 2)]), (88, [(5, 47, 2)]), (91, [(5, 48, 2)]), (94, [(5, 49, 2)]), (97, [(5, 50, 2)])]
  | 57 => [(3, [(6, 6, 2)]), (18, [(6, 1, 2)]), (22, [(6, 0, 0)])]
  | 59 => [(7, [(7, 0, 0)]), (13, [(7, 1, 2)])]
  | 60 => [(7, [(8, 0, 0)])]
  | 61 => [(7, [(9, 0, 0)])]
  | 63 => [(7, [(10, 0, 2)]), (13, [(10, 1, 0)])]
  | 64 => [(7, [(11, 0, 2)])]
  | 65 => [(7, [(12, 0, 2)]), (13, [(12, 2, 0)]), (17, [(12, 1, 2)])]
  | 66 => [(3, [(13, 4, 2), (14, 4, 2)]), (15, [(13, 0, 0), (14, 0, 0)])]
  | 67 => [(3, [(13, 6, 2)])]
  | 68 => [(3, [(14, 9, 2)]), (15, [(14, 5, 2)])]
  | _ => []
def pm_tg (o : Nat) : List (Nat × Int32) := match o with
  | 20 => [(38, 1)]
  | _ => []
def pm_tc (o : Nat) : List (Nat × Int32) := match o with
  | 0 => [(78, 65536), (254, (-1000000)), (261, 268435456)]
  | 4 => [(47, 65536)]
  | 6 => [(80, 65536), (149, 1048576), (349, 65535), (381, (-1000000)), (392, 1000000)]
  | 26 => [(264, 65536), (265, 1431655765), (266, 858993459), (267, 252645135)]
  | 50 => [(78, 65536)]
  | 56 => [(80, 65536)]
  | _ => []
def pm_tl (o : Nat) : List (Nat × Int64) := match o with
  | 0 => [(223, (-1))]
  | 6 => [(350, (-1))]
  | _ => []
def pm_tr (o : Nat) : List (Nat × Nat) := match o with
  | 7 => [(75, 1), (129, 2)]
  | 17 => [(76, 3)]
  | _ => []
def pm_tn (o : Nat) : List (Nat × Nat) := match o with
  | 0 => [(124, 6), (136, 13), (148, 14)]
  | 7 => [(68, 8), (83, 9), (86, 7), (105, 11), (113, 12), (118, 10)]
  | 19 => [(7, 0), (10, 5)]
  | 50 => [(23, 1), (37, 4), (55, 2), (58, 3)]
  | 57 => [(15, 4)]
  | _ => []
def pm_ta (o : Nat) : List (Nat × Nat) := match o with
  | 55 => [(15, 4), (21, 5)]
  | _ => []
def pm_tm (o : Nat) : List (Nat × Nat) := match o with
  | 50 => [(99, 3)]
  | 54 => [(15, 3)]
  | _ => []
def pm_to (o : Nat) : List (Nat × Nat) := match o with
  | 50 => [(45, 0)]
  | 51 => [(3, 0)]
  | 52 => [(1, 0)]
  | 54 => [(9, 0)]
  | 55 => [(3, 0)]
  | 56 => [(1, 0)]
  | 57 => [(9, 0)]
  | 58 => [(1, 0)]
  | 62 => [(1, 0)]
  | 66 => [(9, 0)]
  | _ => []
def pm_ts (o : Nat) : List (Nat × (Nat × pm_T)) := match o with
  | 0 => [(1, (2, mT_J2_min)), (7, (2, mT_J2_max)), (10, (1, mT_J6_numberOfTrailingZeros)), (42, (2, mT_X0_held)), (120, (3, mT_X0_within)), (144, (2, mT_X0_in)), (191, (2, mT_X0_has)), (203, (2, mT_X0_groupOf)), (207, (1, mT_X0_lowest)), (210, (1, mT_X0_outOf)), (214, (1, mT_J6_bitCount)), (238, (1, mT_J2_abs))]
  | 4 => [(61, (1, mT_J6_bitCount)), (73, (2, mT_X0_has)), (87, (1, mT_J2_abs)), (119, (2, mT_J2_min))]
  | 6 => [(100, (2, mT_X6_has)), (104, (3, mT_X6_in)), (112, (1, mT_X6_size)), (170, (1, mT_X6_factOf)), (176, (1, mT_X6_sumSign)), (219, (3, mT_X6_reckon)), (276, (1, mT_X6_bits)), (303, (2, mT_X6_min)), (324, (2, mT_X6_copies)), (343, (1, mT_X6_lowest)), (368, (2, mT_X6_max))]
  | 9 => [(31, (4, mT_X9_worked))]
  | 16 => [(40, (2, mT_X0_in))]
  | 18 => [(51, (2, mT_X0_has)), (67, (1, mT_J2_abs))]
  | 20 => [(637, (4, mT_J1_indexOf))]
  | 21 => [(38, (2, mT_J2_min)), (88, (1, mT_J1_canEncode)), (92, (2, mT_J2_max)), (95, (4, mT_J1_indexOfChar))]
  | _ => []
def pm_ti (o : Nat) : List (Nat × (Nat × pm_T)) := match o with
  | 0 => [(126, (2, mT_X7_init)), (138, (2, mT_X17_init)), (150, (2, mT_X18_init))]
  | 7 => [(73, (1, mT_X10_init)), (85, (1, mT_X11_init)), (91, (2, mT_X9_init)), (107, (1, mT_X14_init)), (115, (3, mT_X15_init)), (120, (2, mT_X13_init))]
  | 19 => [(9, (0, mT_X0_init)), (12, (0, mT_X6_init))]
  | 50 => [(51, (0, mT_X1_init)), (57, (0, mT_X3_init)), (60, (1, mT_X4_init)), (77, (0, mT_X5_init))]
  | 53 => [(3, (0, mT_X2_init))]
  | 57 => [(17, (0, mT_X5_init))]
  | 59 => [(1, (0, mT_X8_init))]
  | 60 => [(1, (0, mT_X8_init))]
  | 61 => [(1, (0, mT_X8_init))]
  | 63 => [(1, (0, mT_X12_init))]
  | 64 => [(1, (0, mT_X12_init))]
  | 65 => [(1, (0, mT_X12_init))]
  | 67 => [(9, (2, mT_X16_init))]
  | 68 => [(9, (2, mT_X16_init))]
  | _ => []
def pm_tv (o : Nat) : List (Nat × (Nat × List (Nat × pm_T))) := match o with
  | 0 => [(36, (2, [(4, mT_X5_tells)])), (116, (1, [(0, mT_X0_push)])), (129, (0, [(6, mT_X7_read)])), (139, (0, [(13, mT_X17_read)])), (140, (1, [(1, mT_X1_takes)])), (151, (0, [(14, mT_X18_read)])), (161, (1, [(3, mT_X4_goes)])), (168, (1, [(1, mT_X1_isTold)])), (172, (1, [(3, mT_X4_takes)])), (178, (0, [(3, mT_X4_nightsOfAll)])), (184, (2, [(3, mT_X4_favoursOf)])), (200, (1, [(1, mT_X1_friends)])), (217, (1, [(0, mT_X0_laysOrders)])), (220, (1, [(0, mT_X0_areTold)])), (225, (3, [(1, mT_X1_parts)])), (229, (1, [(0, mT_X0_isParty)])), (232, (3, [(0, mT_X0_canParty)])), (235, (0, [(0, mT_X0_groups)])), (241, (1, [(0, mT_X0_stepsTo)])), (244, (2, [(0, mT_X0_between)])), (247, (1, [(0, mT_X0_foesOf)])), (250, (2, [(0, mT_X0_pairings)])), (255, (1, [(0, mT_X0_madeEven)])), (258, (1, [(0, mT_X0_fed)])), (262, (1, [(0, mT_X0_houseAt)])), (265, (2, [(0, mT_X0_inTime)])), (268, (1, [(0, mT_X0_sorts)])), (271, (3, [(0, mT_X0_laysCalls)])), (282, (0, [(0, mT_X0_twos)])), (285, (0, [(0, mT_X0_favoursOfAll)]))]
  | 4 => [(41, (1, [(1, mT_X1_isTold)])), (67, (6, [(2, mT_X3_of)])), (80, (1, [(1, mT_X1_friends)])), (83, (2, [(3, mT_X4_asked)])), (92, (4, [(2, mT_X3_by)])), (96, (1, [(0, mT_X0_tells)])), (102, (0, [(3, mT_X4_draw)])), (110, (2, [(4, mT_X5_says)])), (116, (0, [(3, mT_X4_chosen)])), (126, (0, [(3, mT_X4_beds)])), (129, (0, [(3, mT_X4_eveningGoes)]))]
  | 5 => [(31, (1, [(10, mT_X13_holds), (11, mT_X14_holds), (12, mT_X15_holds)])), (35, (1, [(7, mT_X8_told), (8, mT_X8_told), (9, mT_X8_told)]))]
  | 6 => [(119, (1, [(5, mT_X6_types)])), (129, (0, [(5, mT_X6_here)])), (136, (2, [(5, mT_X6_wrongAt)])), (142, (0, [(5, mT_X6_isDigit)])), (156, (0, [(5, mT_X6_waitTop)])), (159, (2, [(5, mT_X6_notes)])), (163, (1, [(5, mT_X6_opens)])), (167, (0, [(5, mT_X6_readsNumber)])), (173, (0, [(5, mT_X6_readsFactor)])), (179, (1, [(5, mT_X6_closesSums)])), (183, (1, [(5, mT_X6_hasOpenSum)])), (186, (0, [(5, mT_X6_readsSum)])), (189, (0, [(5, mT_X6_endsPiece)])), (192, (0, [(5, mT_X6_readsCompared)])), (195, (1, [(5, mT_X6_lands)])), (198, (1, [(5, mT_X6_jumps)])), (204, (0, [(5, mT_X6_readsCondition)])), (207, (1, [(5, mT_X6_beginsText)])), (210, (0, [(5, mT_X6_readsRule)])), (213, (1, [(5, mT_X6_takes)])), (223, (2, [(5, mT_X6_reckonsTo)])), (230, (0, [(5, mT_X6_isLetter)])), (233, (1, [(5, mT_X6_isTold)])), (239, (1, [(5, mT_X6_readsHouse)])), (242, (2, [(5, mT_X6_readsOther)])), (252, (0, [(5, mT_X6_laysAside)])), (255, (0, [(5, mT_X6_readsOrder)])), (258, (0, [(5, mT_X6_putsBack)])), (270, (0, [(5, mT_X6_readsDance)])), (279, (1, [(5, mT_X6_feels)])), (282, (2, [(5, mT_X6_apart)])), (285, (2, [(5, mT_X6_favoursOf)])), (291, (1, [(5, mT_X6_friendsOf)])), (294, (2, [(5, mT_X6_feelsTwo)])), (297, (1, [(5, mT_X6_byLaw)])), (306, (1, [(5, mT_X6_holdsAny)])), (309, (0, [(5, mT_X6_likedMost)])), (315, (0, [(5, mT_X6_goesToBed)])), (318, (0, [(5, mT_X6_eveningGoes)])), (321, (1, [(5, mT_X6_eveningsGo)])), (328, (0, [(5, mT_X6_nightsOfAll)])), (331, (1, [(5, mT_X6_favoursToAll)])), (334, (1, [(5, mT_X6_favoursOfAllTo)])), (337, (2, [(5, mT_X6_groupOf)])), (340, (0, [(5, mT_X6_mustStay)])), (346, (3, [(5, mT_X6_canGo)])), (352, (3, [(5, mT_X6_quarrels)])), (356, (1, [(5, mT_X6_isParty)])), (359, (1, [(5, mT_X6_usedAhead)])), (362, (2, [(5, mT_X6_canJoin)])), (365, (1, [(5, mT_X6_fits)])), (371, (1, [(5, mT_X6_isHouse)])), (374, (1, [(5, mT_X6_stepsTo)])), (377, (3, [(5, mT_X6_pairs)])), (382, (1, [(5, mT_X6_madeEven)])), (385, (1, [(5, mT_X6_octet)])), (388, (4, [(5, mT_X6_callsAt)])), (393, (1, [(5, mT_X6_mostHoused)])), (396, (1, [(5, mT_X6_allHoused)])), (403, (0, [(5, mT_X6_twos)])), (406, (0, [(5, mT_X6_favoursOfAll)]))]
  | 7 => [(39, (0, [(6, mT_X7_here)])), (43, (0, [(6, mT_X7_isGood)])), (47, (0, [(6, mT_X7_seesDigit)])), (50, (2, [(6, mT_X7_bad)])), (57, (0, [(6, mT_X7_opens)])), (60, (0, [(6, mT_X7_sum)])), (64, (1, [(6, mT_X7_must)])), (70, (0, [(6, mT_X7_number)])), (77, (1, [(30, mT_J0_indexOf)])), (88, (0, [(6, mT_X7_factor)])), (98, (0, [(6, mT_X7_product)])), (101, (0, [(6, mT_X7_piece)])), (110, (0, [(6, mT_X7_condition)])), (126, (0, [(6, mT_X7_pieces)])), (146, (0, [(6, mT_X7_clause)]))]
  | 8 => [(13, (1, [(7, mT_X9_worth), (8, mT_X10_worth), (9, mT_X11_worth)]))]
  | 9 => [(23, (1, [(7, mT_X9_worth), (8, mT_X10_worth), (9, mT_X11_worth)]))]
  | 11 => [(13, (1, [(2, mT_X3_value)]))]
  | 13 => [(17, (1, [(10, mT_X13_holds), (11, mT_X14_holds), (12, mT_X15_holds)]))]
  | 14 => [(13, (1, [(10, mT_X13_holds), (11, mT_X14_holds), (12, mT_X15_holds)]))]
  | 15 => [(26, (1, [(7, mT_X9_worth), (8, mT_X10_worth), (9, mT_X11_worth)]))]
  | 16 => [(32, (0, [(13, mT_X16_isGood), (14, mT_X16_isGood)])), (36, (0, [(13, mT_X16_here), (14, mT_X16_here)])), (44, (2, [(13, mT_X16_bad), (14, mT_X16_bad)]))]
  | 17 => [(28, (0, [(13, mT_X16_place)])), (32, (2, [(13, mT_X16_sees)])), (36, (2, [(13, mT_X16_bad)])), (40, (0, [(13, mT_X16_isGood)])), (44, (0, [(13, mT_X16_here)])), (47, (0, [(13, mT_X16_goesOn)])), (55, (1, [(1, mT_X1_isTold)])), (66, (0, [(13, mT_X16_person)])), (69, (3, [(1, mT_X1_parts)])), (78, (1, [(30, mT_J0_indexOf)])), (84, (1, [(13, mT_X17_house)])), (88, (2, [(13, mT_X17_quarrel)])), (92, (0, [(13, mT_X17_line)])), (95, (0, [(13, mT_X16_isEnd)])), (98, (1, [(13, mT_X16_answer)]))]
  | 18 => [(28, (0, [(14, mT_X16_place)])), (32, (0, [(14, mT_X16_person)])), (35, (0, [(14, mT_X16_isGood)])), (39, (1, [(1, mT_X1_isTold)])), (43, (2, [(14, mT_X16_bad)])), (73, (0, [(14, mT_X18_two)])), (77, (0, [(14, mT_X16_isEnd)])), (80, (1, [(14, mT_X16_answer)]))]
  | 19 => [(13, (5, [(0, mT_X0_feed)])), (17, (5, [(5, mT_X6_feed)])), (18, (1, [(0, mT_X0_law)])), (22, (1, [(5, mT_X6_law)])), (23, (1, [(0, mT_X0_orders)])), (26, (1, [(5, mT_X6_orders)])), (27, (2, [(0, mT_X0_dance)])), (31, (2, [(5, mT_X6_dance)])), (32, (1, [(0, mT_X0_evenings)])), (35, (1, [(5, mT_X6_evenings)])), (36, (2, [(0, mT_X0_tried)])), (39, (2, [(5, mT_X6_tried)])), (40, (2, [(0, mT_X0_personIs)])), (43, (2, [(5, mT_X6_personIs)])), (44, (2, [(0, mT_X0_favours)])), (47, (2, [(5, mT_X6_favours)])), (48, (1, [(0, mT_X0_stayOut)])), (51, (1, [(5, mT_X6_stayOut)])), (52, (2, [(0, mT_X0_inOrder)])), (55, (2, [(5, mT_X6_inOrder)])), (56, (1, [(0, mT_X0_ways)])), (60, (1, [(5, mT_X6_ways)])), (61, (1, [(0, mT_X0_keepsOut)])), (64, (1, [(5, mT_X6_keepsOut)])), (65, (2, [(0, mT_X0_chain)])), (68, (2, [(5, mT_X6_chain)])), (69, (1, [(0, mT_X0_party)])), (72, (1, [(5, mT_X6_party)])), (73, (0, [(0, mT_X0_twoStreets)])), (77, (0, [(5, mT_X6_twoStreets)])), (78, (1, [(0, mT_X0_parties)])), (81, (1, [(5, mT_X6_parties)])), (82, (1, [(0, mT_X0_mended)])), (85, (1, [(5, mT_X6_mended)])), (86, (1, [(0, mT_X0_longest)])), (89, (1, [(5, mT_X6_longest)])), (90, (1, [(0, mT_X0_luckless)])), (93, (1, [(5, mT_X6_luckless)])), (94, (1, [(0, mT_X0_stretch)])), (97, (1, [(5, mT_X6_stretch)])), (98, (1, [(0, mT_X0_inDebt)])), (101, (1, [(5, mT_X6_inDebt)])), (102, (1, [(0, mT_X0_meeting)])), (105, (1, [(5, mT_X6_meeting)])), (106, (2, [(0, mT_X0_across)])), (109, (2, [(5, mT_X6_across)])), (110, (2, [(0, mT_X0_calls)])), (113, (2, [(5, mT_X6_calls)])), (114, (1, [(0, mT_X0_madeEven)])), (117, (1, [(5, mT_X6_madeEven)])), (118, (0, [(0, mT_X0_mostOwed)])), (121, (0, [(5, mT_X6_mostOwed)])), (122, (2, [(0, mT_X0_hermit)])), (125, (2, [(5, mT_X6_hermit)])), (126, (1, [(0, mT_X0_burglar)])), (129, (1, [(5, mT_X6_burglar)])), (130, (2, [(0, mT_X0_changed)])), (133, (2, [(5, mT_X6_changed)])), (134, (2, [(0, mT_X0_between)])), (137, (2, [(5, mT_X6_between)])), (138, (1, [(0, mT_X0_seed)])), (142, (1, [(5, mT_X6_seed)])), (143, (0, [(0, mT_X0_keep)])), (146, (0, [(5, mT_X6_keep)])), (147, (0, [(0, mT_X0_undo)])), (151, (0, [(5, mT_X6_undo)])), (152, (1, [(0, mT_X0_check)])), (155, (1, [(5, mT_X6_check)])), (156, (1, [(0, mT_X0_count)])), (159, (1, [(5, mT_X6_count)]))]
  | 20 => [(335, (0, [(30, mT_J0_coder)])), (492, (0, [(30, mT_J0_isLatin1)])), (505, (0, [(30, mT_J0_length)])), (633, (2, [(30, mT_J0_indexOf_2)]))]
  | 67 => [(22, (1, [(1, mT_X1_takes)]))]
  | _ => []
def pm_df (c : Nat) : List Value := match c with
  | 0 => [.null, .null, .null, .null, .null, .null, .null, .null, .int 0, .int 0, .null, .null, .null, .null, .null, .null, .null, .null, .null]
  | 1 => [.null, .null, .int 0, .int 0]
  | 2 => [.int 0, .int 0, .int 0, .int 0, .int 0, .int 0, .int 0, .int 0, .int 0, .int 0, .int 0]
  | 3 => [.null, .null, .null, .int 0, .int 0, .int 0, .int 0, .int 0, .int 0, .null]
  | 4 => [.null, .null, .null, .int 0]
  | 5 => [.null, .null, .null, .null, .null, .null, .null, .int 0, .int 0, .int 0, .int 0, .null, .int 0, .int 0, .int 0, .int 0, .int 0, .int 0, .int 0, .int 0, .int 0, .int 0, .null, .null, .null, .null, .null, .null, .null, .null, .null, .null, .null, .null, .null, .int 0, .null, .int 0, .int 0, .int 0, .null, .int 0, .int 0, .int 0, .int 0, .null, .null, .null, .null, .null, .null, .int 0]
  | 6 => [.int 0, .null, .int 0, .int 0, .int 0, .int 0, .null]
  | 7 => [.int 0, .null, .null]
  | 8 => [.int 0]
  | 9 => [.int 0]
  | 10 => [.null, .int 0, .null]
  | 11 => [.null]
  | 12 => [.null, .null, .int 0]
  | 13 => [.int 0, .int 0, .int 0, .int 0, .null, .int 0, .null]
  | 14 => [.int 0, .int 0, .int 0, .int 0, .null, .null, .int 0, .int 0, .int 0, .null]
  | _ => []
/-! THE PURE MACHINE: cells by number, no addresses; fuel, depth of calls -/
set_option maxRecDepth 100000
abbrev pm_C : Type := (Nat × vp_A) ⊕ (Nat × List Value)
abbrev pm_H : Type := (Nat → pm_C) × Nat × Nat
def pm_g (h : pm_H) (i : Nat) : Option pm_C := if i < h.2.1 then some (h.1 i) else none
def pm_s (h : pm_H) (i : Nat) (c : pm_C) : pm_H := (fun j => if j = i then c else h.1 j, h.2.1, h.2.2)
def pm_a (h : pm_H) (c : pm_C) (k : Nat) : pm_H := (fun j => if j = h.2.1 then c else h.1 j, h.2.1 + 1, h.2.2 + k)
def pm_lk {α : Type} : List (Nat × α) → Nat → Option α
  | [], _ => none
  | (k, v) :: l, i => bif Nat.beq k i then some v else pm_lk l i
abbrev pm_D : Value := .float 0
/-- fields -/
def pm_fld (T : List (Nat × Nat)) (h : pm_H) (a : Nat) : Option Value := match pm_g h a with
  | some (.inr (c, fs)) => (pm_lk T c).bind fun k => fs[k]?
  | _ => none
def pm_fI (T : List (Nat × Nat)) (h : pm_H) (a : Nat) : Option Int32 := match pm_fld T h a with
  | some (.int x) => some x
  | _ => none
def pm_fR (T : List (Nat × Nat)) (h : pm_H) (a : Nat) : Option Nat := match pm_fld T h a with
  | some (.ref x) => some x
  | _ => none
def pm_fit (k : Nat) (v : Value) : Bool := match k, v with
  | 0, .int _ => true
  | 1, .int x => decide (x = 0) || decide (x = 1)
  | 2, .ref _ => true
  | 2, .null => true
  | _, _ => false
def pm_put (T : List (Nat × Nat × Nat)) (h : pm_H) (a : Nat) (v : Value) : Option pm_H := match pm_g h a with
  | some (.inr (c, fs)) => (pm_lk T c).bind fun q => if pm_fit q.2 v = true ∧ q.1 < fs.length then some (pm_s h a (.inr (c, fs.set q.1 v))) else none
  | _ => none
/-- arrays; kinds: 0 int, 1 byte, 2 long, 3 rows of ints, 4 sums, 5 conditions -/
def pm_ai (t : Nat) (h : pm_H) (a : Nat) (i : Int32) : Option Int32 := match pm_g h a with
  | some (.inl (t', n, .inl f)) => if t' = t ∧ ¬ i < 0 ∧ i.toNatClampNeg < n then some (f i.toNatClampNeg) else none
  | _ => none
def pm_al (h : pm_H) (a : Nat) (i : Int32) : Option Int64 := match pm_g h a with
  | some (.inl (t', n, .inr (.inl f))) => if t' = 2 ∧ ¬ i < 0 ∧ i.toNatClampNeg < n then some (f i.toNatClampNeg) else none
  | _ => none
def pm_aq (h : pm_H) (a : Nat) (i : Int32) : Option Value := match pm_g h a with
  | some (.inl (t', n, .inr (.inr (.inr (.inr f))))) => if (t' = 3 ∨ t' = 4 ∨ t' = 5) ∧ ¬ i < 0 ∧ i.toNatClampNeg < n then some (va_rf (f i.toNatClampNeg)) else none
  | _ => none
def pm_aR (h : pm_H) (a : Nat) (i : Int32) : Option Nat := match pm_aq h a i with
  | some (.ref x) => some x
  | _ => none
def pm_si (t : Nat) (h : pm_H) (a : Nat) (i x : Int32) : Option pm_H := match pm_g h a with
  | some (.inl (t', n, .inl f)) => if t' = t ∧ 7 ≤ a ∧ ¬ i < 0 ∧ i.toNatClampNeg < n then some (pm_s h a (.inl (t', n, .inl (upd f i.toNatClampNeg x)))) else none
  | _ => none
def pm_sl (h : pm_H) (a : Nat) (i : Int32) (x : Int64) : Option pm_H := match pm_g h a with
  | some (.inl (t', n, .inr (.inl f))) => if t' = 2 ∧ 7 ≤ a ∧ ¬ i < 0 ∧ i.toNatClampNeg < n then some (pm_s h a (.inl (t', n, .inr (.inl (vp_updL f i.toNatClampNeg x))))) else none
  | _ => none
/-- may a reference stand in an array of this kind -/
def pm_ok (h : pm_H) (t : Nat) (v : Value) : Bool := match v with
  | .null => true
  | .ref b => match pm_g h b with
    | some (.inr (c, _)) => (decide (t = 4) && (decide (c = 7) || decide (c = 8) || decide (c = 9))) || (decide (t = 5) && (decide (c = 10) || decide (c = 11) || decide (c = 12)))
    | _ => false
  | _ => false
def pm_rN (v : Value) : Option Nat := match v with
  | .ref b => some b
  | _ => none
def pm_sq (h : pm_H) (a : Nat) (i : Int32) (v : Value) : Option pm_H := match pm_g h a with
  | some (.inl (t', n, .inr (.inr (.inr (.inr f))))) => if (t' = 4 ∨ t' = 5) ∧ 7 ≤ a ∧ ¬ i < 0 ∧ i.toNatClampNeg < n ∧ pm_ok h t' v = true then some (pm_s h a (.inl (t', n, .inr (.inr (.inr (.inr (va_up f i.toNatClampNeg (pm_rN v)))))))) else none
  | _ => none
def pm_len (h : pm_H) (a : Nat) : Option Int32 := match pm_g h a with
  | some (.inl (t, n, _)) => if t < 6 then some (Int32.ofNat n) else none
  | _ => none
/-- new cells -/
def pm_nw (h : pm_H) (c : Nat) : pm_H := pm_a h (.inr (c, pm_df c)) (pm_df c).length
def pm_na (h : pm_H) (t : Nat) (n : Int32) : Option pm_H := if ¬ n < 0 ∧ n.toNatClampNeg ≤ 100000 then
    (match t with
    | 0 => some (pm_a h (.inl (0, n.toNatClampNeg, .inl fun _ => 0)) n.toNatClampNeg)
    | 1 => some (pm_a h (.inl (1, n.toNatClampNeg, .inl fun _ => 0)) n.toNatClampNeg)
    | 2 => some (pm_a h (.inl (2, n.toNatClampNeg, .inr (.inl fun _ => 0))) n.toNatClampNeg)
    | 4 => some (pm_a h (.inl (4, n.toNatClampNeg, .inr (.inr (.inr (.inr fun _ => none))))) n.toNatClampNeg)
    | 5 => some (pm_a h (.inl (5, n.toNatClampNeg, .inr (.inr (.inr (.inr fun _ => none))))) n.toNatClampNeg)
    | _ => none) else none
/-- n rows of k ints -/
def pm_nm (h : pm_H) (n k : Int32) : Option pm_H := if ¬ n < 0 ∧ n.toNatClampNeg ≤ 100 ∧ ¬ k < 0 ∧ k.toNatClampNeg ≤ 100 then
    some (fun j => if j = h.2.1 then .inl (3, n.toNatClampNeg, .inr (.inr (.inr (.inr fun i => if i < n.toNatClampNeg then some (h.2.1 + 1 + i) else none)))) else if h.2.1 < j ∧ j ≤ h.2.1 + n.toNatClampNeg then .inl (0, k.toNatClampNeg, .inl fun _ => 0) else h.1 j, h.2.1 + 1 + n.toNatClampNeg, h.2.2 + n.toNatClampNeg + n.toNatClampNeg * k.toNatClampNeg) else none
def pm_at (t : ArrayType) : Nat := match t with
  | .int => 0
  | .byte => 1
  | .long => 2
  | _ => 9
/-- locals -/
def pm_nl (L : List Value) (i : Nat) : Bool := match i with
  | 0 => true
  | j + 1 => match L[j]? with
    | some (.long _) => false
    | _ => true
def pm_st (L : List Value) (i : Nat) (v : Value) : Option (List Value) := if i < L.length ∧ pm_nl L i = true then some (L.set i v) else none
def pm_st2 (L : List Value) (i : Nat) (v : Value) : Option (List Value) := if i + 1 < L.length ∧ pm_nl L i = true then some ((L.set i v).set (i + 1) pm_D) else none
def pm_li (L : List Value) (i : Nat) : Option Int32 := match L[i]? with
  | some (.int x) => some x
  | _ => none
def pm_ll (L : List Value) (i : Nat) : Option Int64 := match L[i]? with
  | some (.long x) => some x
  | _ => none
def pm_la (L : List Value) (i : Nat) : Option Value := match L[i]? with
  | some (.ref x) => some (.ref x)
  | some .null => some .null
  | _ => none
/-- jumps -/
def pm_t (pc : Nat) (off : Int) : Option Nat := if 0 ≤ (pc : Int) + off then some ((pc : Int) + off).toNat else none
def pm_cc (c : ClassFile.Cond) (x y : Int32) : Bool := match c with
  | .eq => decide (x = y)
  | .ne => decide (¬ x = y)
  | .lt => decide (x < y)
  | .ge => decide (x ≥ y)
  | .gt => decide (x > y)
  | .le => decide (x ≤ y)
def pm_jp (b : Bool) (pc : Nat) (off : Int) : Option Nat := (pm_t pc off).map fun q => match b with
  | true => q
  | false => pc + 3
abbrev pm_N : Type := Nat × List Value × List Value × pm_H
def pm_i1 (f : Int32 → Int32) (pc : Nat) (L st : List Value) (h : pm_H) : Option pm_N := match st with
  | .int x :: r => some (pc + 1, L, .int (f x) :: r, h)
  | _ => none
def pm_i2 (f : Int32 → Int32 → Int32) (pc : Nat) (L st : List Value) (h : pm_H) : Option pm_N := match st with
  | .int y :: .int x :: r => some (pc + 1, L, .int (f x y) :: r, h)
  | _ => none
def pm_shl (x y : Int32) : Int32 := x <<< (y &&& 31)
def pm_shr (x y : Int32) : Int32 := x >>> (y &&& 31)
def pm_ushr (x y : Int32) : Int32 := (x.toUInt32 >>> (y.toUInt32 &&& Int32.toUInt32 31)).toInt32
def pm_rem (x y : Int32) : Int32 := x - x / y * y
def pm_i2b (x : Int32) : Int32 := x.toInt8.toInt32
/-- one instruction that is no call and no return -/
def pm_step (own pc len : Nat) (i : Instr) (L st : List Value) (h : pm_H) : Option pm_N := match i with
  | .iconst n => some (pc + 1, L, .int (Int32.ofInt n) :: st, h)
  | .bipush n => some (pc + 2, L, .int (Int8.ofInt n).toInt32 :: st, h)
  | .sipush n => some (pc + 3, L, .int (Int16.ofInt n).toInt32 :: st, h)
  | .lconst n => some (pc + 1, L, .long (Int64.ofNat (n : Nat)) :: st, h)
  | .aconst_null => some (pc + 1, L, .null :: st, h)
  | .ldc k => match pm_lk (pm_tc own) k with
    | some v => some (pc + 2, L, .int v :: st, h)
    | none => (pm_lk (pm_tr own) k).map fun r => (pc + 2, L, .ref r :: st, h)
  | .ldc_w k => (pm_lk (pm_tc own) k).map fun v => (pc + 3, L, .int v :: st, h)
  | .ldc2_w k => (pm_lk (pm_tl own) k).map fun v => (pc + 3, L, .long v :: st, h)
  | .iload_n k => (pm_li L (k : Nat)).map fun x => (pc + 1, L, .int x :: st, h)
  | .iload k => (pm_li L k).map fun x => (pc + 2, L, .int x :: st, h)
  | .lload_n k => (pm_ll L (k : Nat)).map fun x => (pc + 1, L, .long x :: st, h)
  | .lload k => (pm_ll L k).map fun x => (pc + 2, L, .long x :: st, h)
  | .aload_n k => (pm_la L (k : Nat)).map fun v => (pc + 1, L, v :: st, h)
  | .aload k => (pm_la L k).map fun v => (pc + 2, L, v :: st, h)
  | .istore_n k => match st with
    | .int x :: r => (pm_st L (k : Nat) (.int x)).map fun L' => (pc + 1, L', r, h)
    | _ => none
  | .istore k => match st with
    | .int x :: r => (pm_st L k (.int x)).map fun L' => (pc + 2, L', r, h)
    | _ => none
  | .lstore_n k => match st with
    | .long x :: r => (pm_st2 L (k : Nat) (.long x)).map fun L' => (pc + 1, L', r, h)
    | _ => none
  | .lstore k => match st with
    | .long x :: r => (pm_st2 L k (.long x)).map fun L' => (pc + 2, L', r, h)
    | _ => none
  | .astore_n k => match st with
    | .ref x :: r => (pm_st L (k : Nat) (.ref x)).map fun L' => (pc + 1, L', r, h)
    | .null :: r => (pm_st L (k : Nat) .null).map fun L' => (pc + 1, L', r, h)
    | _ => none
  | .astore k => match st with
    | .ref x :: r => (pm_st L k (.ref x)).map fun L' => (pc + 2, L', r, h)
    | .null :: r => (pm_st L k .null).map fun L' => (pc + 2, L', r, h)
    | _ => none
  | .iinc k n => if len = 3 then (pm_li L k).bind fun x => (pm_st L k (.int (x + Int32.ofInt n))).map fun L' => (pc + 3, L', st, h) else none
  | .iadd => pm_i2 (fun x y => x + y) pc L st h
  | .isub => pm_i2 (fun x y => x - y) pc L st h
  | .imul => pm_i2 (fun x y => x * y) pc L st h
  | .iand => pm_i2 (fun x y => x &&& y) pc L st h
  | .ior => pm_i2 (fun x y => x ||| y) pc L st h
  | .ixor => pm_i2 (fun x y => x ^^^ y) pc L st h
  | .ishl => pm_i2 pm_shl pc L st h
  | .ishr => pm_i2 pm_shr pc L st h
  | .iushr => pm_i2 pm_ushr pc L st h
  | .idiv => match st with
    | .int y :: .int x :: r => if y = 0 then none else some (pc + 1, L, .int (x / y) :: r, h)
    | _ => none
  | .irem => match st with
    | .int y :: .int x :: r => if y = 0 then none else some (pc + 1, L, .int (pm_rem x y) :: r, h)
    | _ => none
  | .ineg => pm_i1 (fun x => -x) pc L st h
  | .i2b => pm_i1 pm_i2b pc L st h
  | .ladd => match st with
    | .long y :: .long x :: r => some (pc + 1, L, .long (x + y) :: r, h)
    | _ => none
  | .lcmp => match st with
    | .long y :: .long x :: r => some (pc + 1, L, .int (lg_cmp x y) :: r, h)
    | _ => none
  | .dup => match st with
    | v :: r => if v.category = 1 then some (pc + 1, L, v :: v :: r, h) else none
    | _ => none
  | .dup2 => match st with
    | v :: w :: r => if v.category = 1 ∧ w.category = 1 then some (pc + 1, L, v :: w :: v :: w :: r, h) else none
    | _ => none
  | .pop => match st with
    | v :: r => if v.category = 1 then some (pc + 1, L, r, h) else none
    | _ => none
  | .ifCond c off => match st with
    | .int x :: r => (pm_jp (pm_cc c x 0) pc off).map fun q => (q, L, r, h)
    | _ => none
  | .if_icmp c off => match st with
    | .int y :: .int x :: r => (pm_jp (pm_cc c x y) pc off).map fun q => (q, L, r, h)
    | _ => none
  | .ifnull off => match st with
    | .null :: r => (pm_t pc off).map fun q => (q, L, r, h)
    | .ref _ :: r => some (pc + 3, L, r, h)
    | _ => none
  | .goto off => (pm_t pc off).map fun q => (q, L, st, h)
  | .tableswitch dflt lo hi offs => match st with
    | .int x :: r => if x.toInt < lo ∨ hi < x.toInt then (pm_t pc dflt).map fun q => (q, L, r, h) else (offs[(x.toInt - lo).toNat]?).bind fun off => (pm_t pc off).map fun q => (q, L, r, h)
    | _ => none
  | .lookupswitch dflt ps => match st with
    | .int x :: r => if (ps.toList.zip (ps.toList.drop 1)).all (fun (a, next) => a.1 < next.1) = true then (pm_t pc (Op.lookupswitch.offset ps.toList dflt x.toInt)).map fun q => (q, L, r, h) else none
    | _ => none
  | .getfield k => match st with
    | .ref a :: r => (pm_lk (pm_tf own) k).bind fun T => (pm_fld T h a).map fun v => (pc + 3, L, v :: r, h)
    | _ => none
  | .putfield k => match st with
    | v :: .ref a :: r => (pm_lk (pm_tp own) k).bind fun T => (pm_put T h a v).map fun h' => (pc + 3, L, r, h')
    | _ => none
  | .getstatic k => (pm_lk (pm_tg own) k).map fun v => (pc + 3, L, .int v :: st, h)
  | .iaload => match st with
    | .int i :: .ref a :: r => (pm_ai 0 h a i).map fun v => (pc + 1, L, .int v :: r, h)
    | _ => none
  | .baload => match st with
    | .int i :: .ref a :: r => (pm_ai 1 h a i).map fun v => (pc + 1, L, .int v :: r, h)
    | _ => none
  | .laload => match st with
    | .int i :: .ref a :: r => (pm_al h a i).map fun v => (pc + 1, L, .long v :: r, h)
    | _ => none
  | .aaload => match st with
    | .int i :: .ref a :: r => (pm_aq h a i).map fun v => (pc + 1, L, v :: r, h)
    | _ => none
  | .iastore => match st with
    | .int x :: .int i :: .ref a :: r => (pm_si 0 h a i x).map fun h' => (pc + 1, L, r, h')
    | _ => none
  | .bastore => match st with
    | .int x :: .int i :: .ref a :: r => (pm_si 1 h a i (vp_nar .byte x)).map fun h' => (pc + 1, L, r, h')
    | _ => none
  | .lastore => match st with
    | .long x :: .int i :: .ref a :: r => (pm_sl h a i x).map fun h' => (pc + 1, L, r, h')
    | _ => none
  | .aastore => match st with
    | v :: .int i :: .ref a :: r => (pm_sq h a i v).map fun h' => (pc + 1, L, r, h')
    | _ => none
  | .arraylength => match st with
    | .ref a :: r => (pm_len h a).map fun n => (pc + 1, L, .int n :: r, h)
    | _ => none
  | .new k => (pm_lk (pm_tn own) k).map fun c => (pc + 3, L, .ref h.2.1 :: st, pm_nw h c)
  | .newarray ty => match st with
    | .int n :: r => (pm_na h (pm_at ty) n).map fun h' => (pc + 2, L, .ref h.2.1 :: r, h')
    | _ => none
  | .anewarray k => match st with
    | .int n :: r => (pm_lk (pm_ta own) k).bind fun t => (pm_na h t n).map fun h' => (pc + 3, L, .ref h.2.1 :: r, h')
    | _ => none
  | .multianewarray k 2 => match st with
    | .int m :: .int n :: r => (pm_lk (pm_tm own) k).bind fun _ => (pm_nm h n m).map fun h' => (pc + 4, L, .ref h.2.1 :: r, h')
    | _ => none
  | .invokespecial k => match st with
    | .ref _ :: r => if (r.map fun v => v.category).sum ≤ 8 then (pm_lk (pm_to own) k).map fun _ => (pc + 3, L, r, h) else none
    | _ => none
  | _ => none
def pm_ret (rt : Option FieldType) (i : Instr) (st : List Value) : Option (Option Value) := match i with
  | .ireturn => match st, rt with
    | [.int v], some ty => if narrow ty (.int v) = .int v then some (some (.int v)) else none
    | _, _ => none
  | .lreturn => match st, rt with
    | [.long v], some .long => some (some (.long v))
    | _, _ => none
  | .areturn => match st, rt with
    | [.ref v], some (.object _) => some (some (.ref v))
    | [.null], some (.object _) => some (some .null)
    | _, _ => none
  | .return_ => match st, rt with
    | [], none => some none
    | _, _ => none
  | _ => none
/-- may stand in a call: no longs -/
def pm_v1 (v : Value) : Bool := match v with
  | .int _ => true
  | .ref _ => true
  | .null => true
  | _ => false
def pm_sum (r : List Value) : Nat := (r.map fun v => v.category).sum
def pm_as (tg : pm_T) (as rest : List Value) : Option (pm_T × List Value × List Value) := if as.all pm_v1 = true ∧ as.length ≤ tg.2.2.2.1 ∧ pm_sum rest ≤ 8 ∧ tg.2.2.2.1 ≤ 21 then some (tg, as, rest) else none
def pm_call (own : Nat) (i : Instr) (st : List Value) (h : pm_H) : Option (pm_T × List Value × List Value) := match i with
  | .invokestatic k => (pm_lk (pm_ts own) k).bind fun q => if q.1 ≤ st.length then pm_as q.2 (st.take q.1).reverse (st.drop q.1) else none
  | .invokespecial k => (pm_lk (pm_ti own) k).bind fun q => match st.drop q.1 with
    | .ref b :: r => pm_as q.2 (.ref b :: (st.take q.1).reverse) r
    | _ => none
  | .invokevirtual k => (pm_lk (pm_tv own) k).bind fun q => match st.drop q.1 with
    | .ref b :: r => match pm_g h b with
      | some (.inr (c, _)) => (pm_lk q.2 c).bind fun tg => pm_as tg (.ref b :: (st.take q.1).reverse) r
      | _ => none
    | _ => none
  | _ => none
/-- how long the instruction is -/
def pm_ln (i : Instr) (len : Nat) : Bool := match i with
  | .tableswitch .. => true
  | .lookupswitch .. => true
  | .bipush _ => Nat.beq len 2
  | .iload _ => Nat.beq len 2
  | .lload _ => Nat.beq len 2
  | .aload _ => Nat.beq len 2
  | .istore _ => Nat.beq len 2
  | .lstore _ => Nat.beq len 2
  | .astore _ => Nat.beq len 2
  | .ldc _ => Nat.beq len 2
  | .newarray _ => Nat.beq len 2
  | .sipush _ => Nat.beq len 3
  | .ldc_w _ => Nat.beq len 3
  | .ldc2_w _ => Nat.beq len 3
  | .iinc .. => Nat.beq len 3
  | .ifCond .. => Nat.beq len 3
  | .if_icmp .. => Nat.beq len 3
  | .ifnull _ => Nat.beq len 3
  | .goto _ => Nat.beq len 3
  | .getfield _ => Nat.beq len 3
  | .putfield _ => Nat.beq len 3
  | .getstatic _ => Nat.beq len 3
  | .new _ => Nat.beq len 3
  | .anewarray _ => Nat.beq len 3
  | .invokestatic _ => Nat.beq len 3
  | .invokespecial _ => Nat.beq len 3
  | .invokevirtual _ => Nat.beq len 3
  | .multianewarray .. => Nat.beq len 4
  | _ => Nat.beq len 1
def pm_en (as : List Value) (n : Nat) : List Value := as ++ List.replicate (n - as.length) pm_D
/-- fuel, depth, the class, the code, the kind of answer, the place, the locals, the stack, the heap -/
def pm_run : Nat → Nat → Nat → ByteArray → Option FieldType → Nat → List Value → List Value → pm_H → Option (Option Value × pm_H)
  | 0, _, _, _, _, _, _, _, _ => none
  | n + 1, d, own, cc, rt, pc, L, st, h => match decode cc pc with
    | .error _ => none
    | .ok (i, len) => match pm_ln i len with
      | false => none
      | true => match pm_ret rt i st with
        | some r => some (r, h)
        | none => match pm_call own i st h with
          | some (tg, as, rest) => match d with
            | 0 => none
            | d' + 1 => match pm_run n d' tg.1 tg.2.2.1 tg.2.2.2.2 0 (pm_en as tg.2.2.2.1) [] h with
              | some (r, h') => pm_run n (d' + 1) own cc rt (pc + 3) L (r.toList ++ rest) h'
              | none => none
          | none => match pm_step own pc len i L st h with
            | some (pc', L', st', h') => pm_run n d own cc rt pc' L' st' h'
            | none => none
theorem pm_mono : ∀ (n d own : Nat) (cc : ByteArray) (rt : Option FieldType) (pc : Nat) (L st : List Value) (h : pm_H) (res : Option Value × pm_H), pm_run n d own cc rt pc L st h = some res → pm_run (n + 1) d own cc rt pc L st h = some res := by
  intro n
  induction n with
  | zero => intro d own cc rt pc L st h res e; simp [pm_run] at e
  | succ n ih =>
    intro d own cc rt pc L st h res e
    rw [pm_run] at e ⊢
    revert e
    cases decode cc pc with
    | error _ => exact fun e => e
    | ok q =>
      obtain ⟨i, len⟩ := q
      dsimp only
      cases pm_ln i len with
      | false => exact fun e => e
      | true =>
      dsimp only
      cases pm_ret rt i st with
      | some r => exact fun e => e
      | none =>
        dsimp only
        cases pm_call own i st h with
        | some q =>
          obtain ⟨tg, as, rest⟩ := q
          dsimp only
          cases d with
          | zero => exact fun e => e
          | succ d' =>
            dsimp only
            intro e
            cases h1 : pm_run n d' tg.1 tg.2.2.1 tg.2.2.2.2 0 (pm_en as tg.2.2.2.1) [] h with
            | none => rw [h1] at e; cases e
            | some q =>
              rw [h1] at e
              rw [ih _ _ _ _ _ _ _ _ _ h1]
              exact ih _ _ _ _ _ _ _ _ _ e
        | none =>
          dsimp only
          intro e
          cases h1 : pm_step own pc len i L st h with
          | none => rw [h1] at e; cases e
          | some q =>
            rw [h1] at e
            exact ih _ _ _ _ _ _ _ _ _ e
theorem pm_more {n d own : Nat} {cc : ByteArray} {rt : Option FieldType} {pc : Nat} {L st : List Value} {h : pm_H} {res : Option Value × pm_H} (k : Nat) (e : pm_run n d own cc rt pc L st h = some res) : pm_run (n + k) d own cc rt pc L st h = some res := by
  induction k with
  | zero => exact e
  | succ k ih => exact pm_mono _ _ _ _ _ _ _ _ _ _ ih
/-- it comes to its end with that answer and heap -/
def pm_E (d own : Nat) (cc : ByteArray) (rt : Option FieldType) (pc : Nat) (L st : List Value) (h : pm_H) (res : Option Value × pm_H) : Prop := ∃ n, pm_run n d own cc rt pc L st h = some res
