/-! the methods by their numbers (by program) -/
set_option maxRecDepth 100000
abbrev q_J0_copyOf : MI := (yJ0_copyOf, cJ0_copyOf, 3, (some (.array .byte)), [])
abbrev q_J0_copyOfRange : MI := (yJ0_copyOfRange, cJ0_copyOfRange, 3, (some (.array .byte)), [])
abbrev q_J0_copyOfRangeByte : MI := (yJ0_copyOfRangeByte, cJ0_copyOfRangeByte, 5, (some (.array .byte)), [])
abbrev q_J0_checkLength : MI := (yJ0_checkLength, cJ0_checkLength, 2, none, [])
abbrev q_J0_fill : MI := (yJ0_fill, cJ0_fill, 4, none, [])
abbrev q_J0_fill_2 : MI := (yJ0_fill_2, cJ0_fill_2, 4, none, [])
abbrev q_J11_canEncode : MI := (yJ11_canEncode, cJ11_canEncode, 1, (some .boolean), [])
abbrev q_J11_equals : MI := (yJ11_equals, cJ11_equals, 3, (some .boolean), [])
abbrev q_J11_indexOf : MI := (yJ11_indexOf, cJ11_indexOf, 2, (some .int), [])
abbrev q_J11_indexOf_2 : MI := (yJ11_indexOf_2, cJ11_indexOf_2, 11, (some .int), [])
abbrev q_J6_init : MI := (yJ6_init, cJ6_init, 2, none, [])
abbrev q_J6_append : MI := (yJ6_append, cJ6_append, 2, (some (.object "java/lang/AbstractStringBuilder")), [])
abbrev q_J6_ensureCapacityInternal : MI := (yJ6_ensureCapacityInternal, cJ6_ensureCapacityInternal, 3, none, [])
abbrev q_J6_isLatin1 : MI := (yJ6_isLatin1, cJ6_isLatin1, 1, (some .boolean), [])
abbrev q_J6_getValue : MI := (yJ6_getValue, cJ6_getValue, 1, (some (.array .byte)), [])
abbrev q_J6_length : MI := (yJ6_length, cJ6_length, 1, (some .int), [])
abbrev q_J6_append_2 : MI := (yJ6_append_2, cJ6_append_2, 3, (some (.object "java/lang/AbstractStringBuilder")), [])
abbrev q_J6_putStringAt : MI := (yJ6_putStringAt, cJ6_putStringAt, 3, none, [])
abbrev q_J6_inflateIfNeededFor : MI := (yJ6_inflateIfNeededFor, cJ6_inflateIfNeededFor, 2, none, [])
abbrev q_J7_init : MI := (yJ7_init, cJ7_init, 1, none, [])
abbrev q_J7_append : MI := (yJ7_append, cJ7_append, 2, (some (.object "java/lang/StringBuilder")), [])
abbrev q_J7_toString : MI := (yJ7_toString, cJ7_toString, 1, (some (.object "java/lang/String")), [])
abbrev q_J7_length : MI := (yJ7_length, cJ7_length, 1, (some .int), [])
abbrev q_J7_append_2 : MI := (yJ7_append_2, cJ7_append_2, 2, (some (.object "java/lang/StringBuilder")), [])
abbrev q_J8_init : MI := (yJ8_init, cJ8_init, 2, none, [])
abbrev q_J8_init_2 : MI := (yJ8_init_2, cJ8_init_2, 5, none, [])
abbrev q_J8_equals : MI := (yJ8_equals, cJ8_equals, 3, (some .boolean), [])
abbrev q_J8_length : MI := (yJ8_length, cJ8_length, 1, (some .int), [])
abbrev q_J8_coder : MI := (yJ8_coder, cJ8_coder, 1, (some .byte), [])
abbrev q_J8_getBytes : MI := (yJ8_getBytes, cJ8_getBytes, 4, none, [])
abbrev q_J8_indexOf : MI := (yJ8_indexOf, cJ8_indexOf, 3, (some .int), [])
abbrev q_J8_isLatin1 : MI := (yJ8_isLatin1, cJ8_isLatin1, 1, (some .boolean), [])
abbrev q_X0_column : MI := (yX0_column, cX0_column, 6, (some .int), [(0, 12, 15, 13)])
abbrev q_X0_bar : MI := (yX0_bar, cX0_bar, 5, (some .int), [(0, 10, 13, 13)])
abbrev q_X0_wheel : MI := (yX0_wheel, cX0_wheel, 4, (some .int), [(0, 9, 12, 13)])
abbrev q_X0_wantedAt : MI := (yX0_wantedAt, cX0_wantedAt, 5, (some .int), [(0, 10, 13, 13)])
abbrev q_X1_init : MI := (yX1_init, cX1_init, 2, none, [])
abbrev q_X1_feed : MI := (yX1_feed, cX1_feed, 6, (some .int), [])
abbrev q_X1_come : MI := (yX1_come, cX1_come, 3, none, [])
abbrev q_X1_end : MI := (yX1_end, cX1_end, 2, (some .boolean), [])
abbrev q_X1_card : MI := (yX1_card, cX1_card, 4, (some .int), [])
abbrev q_X1_take : MI := (yX1_take, cX1_take, 2, (some .int), [])
abbrev q_X1_isBox : MI := (yX1_isBox, cX1_isBox, 1, (some .boolean), [])
abbrev q_X1_isIn : MI := (yX1_isIn, cX1_isIn, 3, (some .boolean), [])
abbrev q_X1_isDigit : MI := (yX1_isDigit, cX1_isDigit, 1, (some .boolean), [])
abbrev q_X1_cards : MI := (yX1_cards, cX1_cards, 2, (some .int), [])
abbrev q_X1_empty : MI := (yX1_empty, cX1_empty, 3, (some .int), [])
abbrev q_X1_board : MI := (yX1_board, cX1_board, 3, (some .int), [(10, 36, 37, 165)])
abbrev q_X1_mostOf : MI := (yX1_mostOf, cX1_mostOf, 1, (some .int), [])
abbrev q_X1_fault : MI := (yX1_fault, cX1_fault, 1, (some .int), [])
abbrev q_X1_run : MI := (yX1_run, cX1_run, 5, (some .int), [])
abbrev q_X1_ran : MI := (yX1_ran, cX1_ran, 2, (some .int), [])
abbrev q_X1_pass : MI := (yX1_pass, cX1_pass, 3, (some .boolean), [])
abbrev q_X1_sort : MI := (yX1_sort, cX1_sort, 5, none, [])
abbrev q_X1_key : MI := (yX1_key, cX1_key, 2, (some .int), [])
abbrev q_X1_idle : MI := (yX1_idle, cX1_idle, 3, (some .int), [])
abbrev q_X1_runWithout : MI := (yX1_runWithout, cX1_runWithout, 4, none, [])
abbrev q_X1_find : MI := (yX1_find, cX1_find, 2, none, [])
abbrev q_X1_missing : MI := (yX1_missing, cX1_missing, 4, (some .int), [])
abbrev q_X1_areLines : MI := (yX1_areLines, cX1_areLines, 3, (some .boolean), [])
abbrev q_X1_told : MI := (yX1_told, cX1_told, 3, none, [])
abbrev q_X1_wire : MI := (yX1_wire, cX1_wire, 2, (some .int), [])
abbrev q_X1_tests : MI := (yX1_tests, cX1_tests, 13, (some .int), [])
abbrev q_X1_bits : MI := (yX1_bits, cX1_bits, 5, (some .int), [])
abbrev q_X1_testSet : MI := (yX1_testSet, cX1_testSet, 1, (some .int), [])
abbrev q_X1_shown : MI := (yX1_shown, cX1_shown, 1, (some .int), [])
abbrev q_X1_job : MI := (yX1_job, cX1_job, 3, (some .int), [(10, 40, 41, 165)])
abbrev q_X1_part : MI := (yX1_part, cX1_part, 4, none, [])
abbrev q_X1_firstRun : MI := (yX1_firstRun, cX1_firstRun, 5, (some .int), [])
abbrev q_X1_runs : MI := (yX1_runs, cX1_runs, 1, (some .int), [])
abbrev q_X1_wants : MI := (yX1_wants, cX1_wants, 2, (some .int), [])
abbrev q_X1_isRun : MI := (yX1_isRun, cX1_isRun, 2, (some .boolean), [])
abbrev q_X1_make : MI := (yX1_make, cX1_make, 2, (some .int), [])
abbrev q_X1_wanted : MI := (yX1_wanted, cX1_wanted, 3, (some .int), [])
abbrev q_X1_want : MI := (yX1_want, cX1_want, 8, none, [])
abbrev q_X1_total : MI := (yX1_total, cX1_total, 11, none, [])
abbrev q_X1_same : MI := (yX1_same, cX1_same, 3, (some .int), [])
abbrev q_X1_needed : MI := (yX1_needed, cX1_needed, 5, (some .int), [])
abbrev q_X1_isOrdered : MI := (yX1_isOrdered, cX1_isOrdered, 7, (some .boolean), [])
abbrev q_X1_neededSet : MI := (yX1_neededSet, cX1_neededSet, 1, (some .int), [])
abbrev q_X1_unseen : MI := (yX1_unseen, cX1_unseen, 5, (some .int), [])
abbrev q_X1_unseenAt : MI := (yX1_unseenAt, cX1_unseenAt, 2, (some .int), [])
abbrev q_X1_moves : MI := (yX1_moves, cX1_moves, 11, (some .int), [])
abbrev q_X1_sortOf : MI := (yX1_sortOf, cX1_sortOf, 6, (some (.object "PlugHall$Sort")), [])
abbrev q_X1_manyOf : MI := (yX1_manyOf, cX1_manyOf, 1, (some .int), [])
abbrev q_X1_wiresOf : MI := (yX1_wiresOf, cX1_wiresOf, 4, (some .int), [])
abbrev q_X1_move : MI := (yX1_move, cX1_move, 3, (some .int), [])
abbrev q_X1_keep : MI := (yX1_keep, cX1_keep, 2, (some .boolean), [])
abbrev q_X1_use : MI := (yX1_use, cX1_use, 2, (some .int), [])
abbrev q_X1_isKept : MI := (yX1_isKept, cX1_isKept, 2, (some .boolean), [])
abbrev q_X1_apart : MI := (yX1_apart, cX1_apart, 3, (some .int), [])
abbrev q_X1_friday : MI := (yX1_friday, cX1_friday, 6, (some .int), [])
abbrev q_X1_plan : MI := (yX1_plan, cX1_plan, 7, none, [])
abbrev q_X1_two : MI := (yX1_two, cX1_two, 2, (some .int), [])
abbrev q_X1_fridayAt : MI := (yX1_fridayAt, cX1_fridayAt, 2, (some .int), [])
abbrev q_X1_count : MI := (yX1_count, cX1_count, 7, (some .int), [])
abbrev q_X1_column : MI := (yX1_column, cX1_column, 4, (some .int), [])
abbrev q_X1_need : MI := (yX1_need, cX1_need, 1, none, [])
abbrev q_X1_bar : MI := (yX1_bar, cX1_bar, 3, (some .int), [])
abbrev q_X1_wheel : MI := (yX1_wheel, cX1_wheel, 2, (some .int), [])
abbrev q_X1_wantedAt : MI := (yX1_wantedAt, cX1_wantedAt, 3, (some .int), [])
abbrev q_X10_init : MI := (yX10_init, cX10_init, 3, none, [])
abbrev q_X11_init : MI := (yX11_init, cX11_init, 3, none, [])
abbrev q_X11_read : MI := (yX11_read, cX11_read, 1, (some (.object "PlugHall$Job")), [])
abbrev q_X11_field : MI := (yX11_field, cX11_field, 4, none, [])
abbrev q_X11_isName : MI := (yX11_isName, cX11_isName, 1, (some .boolean), [])
abbrev q_X11_breaks : MI := (yX11_breaks, cX11_breaks, 2, none, [])
abbrev q_X11_want : MI := (yX11_want, cX11_want, 3, none, [])
abbrev q_X12_init : MI := (yX12_init, cX12_init, 2, none, [])
abbrev q_X12_make : MI := (yX12_make, cX12_make, 5, (some (.object "PlugHall$Board")), [])
abbrev q_X12_wire : MI := (yX12_wire, cX12_wire, 3, none, [])
abbrev q_X12_takesIn : MI := (yX12_takesIn, cX12_takesIn, 5, none, [])
abbrev q_X12_point : MI := (yX12_point, cX12_point, 3, (some .int), [])
abbrev q_X12_prints : MI := (yX12_prints, cX12_prints, 6, none, [])
abbrev q_X2_init : MI := (yX2_init, cX2_init, 1, none, [])
abbrev q_X2_add : MI := (yX2_add, cX2_add, 3, (some .boolean), [])
abbrev q_X2_like : MI := (yX2_like, cX2_like, 6, (some (.object "PlugHall$Board")), [])
abbrev q_X2_apart : MI := (yX2_apart, cX2_apart, 2, (some .int), [])
abbrev q_X2_beyond : MI := (yX2_beyond, cX2_beyond, 7, (some .int), [])
abbrev q_X2_isLike : MI := (yX2_isLike, cX2_isLike, 4, (some .boolean), [])
abbrev q_X3_init : MI := (yX3_init, cX3_init, 1, none, [])
abbrev q_X3_run : MI := (yX3_run, cX3_run, 12, none, [])
abbrev q_X3_giveCard : MI := (yX3_giveCard, cX3_giveCard, 4, none, [])
abbrev q_X3_settle : MI := (yX3_settle, cX3_settle, 5, (some .boolean), [])
abbrev q_X3_joinNets : MI := (yX3_joinNets, cX3_joinNets, 2, none, [])
abbrev q_X3_join : MI := (yX3_join, cX3_join, 3, none, [])
abbrev q_X3_root : MI := (yX3_root, cX3_root, 3, (some .int), [])
abbrev q_X3_seek : MI := (yX3_seek, cX3_seek, 5, (some .boolean), [])
abbrev q_X3_takes : MI := (yX3_takes, cX3_takes, 2, (some .boolean), [])
abbrev q_X3_take : MI := (yX3_take, cX3_take, 3, (some .int), [])
abbrev q_X3_breaks : MI := (yX3_breaks, cX3_breaks, 3, (some .int), [])
abbrev q_X3_act : MI := (yX3_act, cX3_act, 1, (some .boolean), [])
abbrev q_X3_print : MI := (yX3_print, cX3_print, 3, (some .boolean), [])
abbrev q_X3_count : MI := (yX3_count, cX3_count, 4, (some .boolean), [])
abbrev q_X3_punch : MI := (yX3_punch, cX3_punch, 2, (some .boolean), [])
abbrev q_X3_giveTotal : MI := (yX3_giveTotal, cX3_giveTotal, 5, none, [])
abbrev q_X4_init : MI := (yX4_init, cX4_init, 1, none, [])
abbrev q_X4_begin : MI := (yX4_begin, cX4_begin, 2, none, [])
abbrev q_X4_isLike : MI := (yX4_isLike, cX4_isLike, 4, (some .boolean), [])
abbrev q_X4_printsLike : MI := (yX4_printsLike, cX4_printsLike, 4, (some .boolean), [])
abbrev q_X4_isLike_2 : MI := (yX4_isLike_2, cX4_isLike_2, 4, (some .boolean), [])
abbrev q_X5_init : MI := (yX5_init, cX5_init, 1, none, [])
abbrev q_X5_find : MI := (yX5_find, cX5_find, 3, (some .int), [])
abbrev q_X5_adds : MI := (yX5_adds, cX5_adds, 5, (some .int), [])
abbrev q_X5_orderBehind : MI := (yX5_orderBehind, cX5_orderBehind, 5, (some .int), [])
abbrev q_X6_init : MI := (yX6_init, cX6_init, 1, none, [])
abbrev q_X7_init : MI := (yX7_init, cX7_init, 1, none, [])
abbrev q_X7_thrown : MI := (yX7_thrown, cX7_thrown, 1, (some .int), [])
abbrev q_X7_feed : MI := (yX7_feed, cX7_feed, 6, (some .int), [])
abbrev q_X7_four : MI := (yX7_four, cX7_four, 3, none, [])
abbrev q_X7_end : MI := (yX7_end, cX7_end, 2, (some .boolean), [])
abbrev q_X7_card : MI := (yX7_card, cX7_card, 3, (some .int), [])
abbrev q_X7_taken : MI := (yX7_taken, cX7_taken, 1, none, [])
abbrev q_X7_isBox : MI := (yX7_isBox, cX7_isBox, 1, (some .boolean), [])
abbrev q_X7_isIn : MI := (yX7_isIn, cX7_isIn, 3, (some .boolean), [])
abbrev q_X7_octet : MI := (yX7_octet, cX7_octet, 2, (some .int), [])
abbrev q_X7_cards : MI := (yX7_cards, cX7_cards, 2, (some .int), [])
abbrev q_X7_column : MI := (yX7_column, cX7_column, 4, (some .int), [])
abbrev q_X7_throwsIf : MI := (yX7_throwsIf, cX7_throwsIf, 2, (some .boolean), [])
abbrev q_X7_empty : MI := (yX7_empty, cX7_empty, 3, (some .int), [])
abbrev q_X7_fault : MI := (yX7_fault, cX7_fault, 1, (some .int), [])
abbrev q_X7_board : MI := (yX7_board, cX7_board, 2, (some .int), [])
abbrev q_X7_next : MI := (yX7_next, cX7_next, 3, none, [])
abbrev q_X7_peek : MI := (yX7_peek, cX7_peek, 1, (some .int), [])
abbrev q_X7_isSmall : MI := (yX7_isSmall, cX7_isSmall, 1, (some .boolean), [])
abbrev q_X7_isDigit : MI := (yX7_isDigit, cX7_isDigit, 1, (some .boolean), [])
abbrev q_X7_read : MI := (yX7_read, cX7_read, 4, (some .boolean), [])
abbrev q_X7_isHub : MI := (yX7_isHub, cX7_isHub, 3, (some .boolean), [])
abbrev q_X7_bad : MI := (yX7_bad, cX7_bad, 3, (some .boolean), [])
abbrev q_X7_hub : MI := (yX7_hub, cX7_hub, 7, (some .int), [])
abbrev q_X7_takes : MI := (yX7_takes, cX7_takes, 3, (some .boolean), [])
abbrev q_X7_sign : MI := (yX7_sign, cX7_sign, 2, (some .boolean), [])
abbrev q_X7_most : MI := (yX7_most, cX7_most, 1, (some .int), [])
abbrev q_X7_takesOnly : MI := (yX7_takesOnly, cX7_takesOnly, 1, (some .boolean), [])
abbrev q_X7_copyBoard : MI := (yX7_copyBoard, cX7_copyBoard, 4, none, [])
abbrev q_X7_run : MI := (yX7_run, cX7_run, 4, (some .int), [])
abbrev q_X7_load : MI := (yX7_load, cX7_load, 7, none, [])
abbrev q_X7_play : MI := (yX7_play, cX7_play, 6, none, [])
abbrev q_X7_nets : MI := (yX7_nets, cX7_nets, 5, none, [])
abbrev q_X7_joins : MI := (yX7_joins, cX7_joins, 4, (some .boolean), [])
abbrev q_X7_digit : MI := (yX7_digit, cX7_digit, 4, (some .int), [])
abbrev q_X7_cycle : MI := (yX7_cycle, cX7_cycle, 4, (some .int), [])
abbrev q_X7_gather : MI := (yX7_gather, cX7_gather, 5, none, [])
abbrev q_X7_have : MI := (yX7_have, cX7_have, 2, (some .int), [])
abbrev q_X7_take : MI := (yX7_take, cX7_take, 3, (some .int), [])
abbrev q_X7_jam : MI := (yX7_jam, cX7_jam, 3, (some .int), [])
abbrev q_X7_prints : MI := (yX7_prints, cX7_prints, 2, (some .boolean), [])
abbrev q_X7_turn : MI := (yX7_turn, cX7_turn, 5, none, [])
abbrev q_X7_total : MI := (yX7_total, cX7_total, 5, none, [])
abbrev q_X7_keepRun : MI := (yX7_keepRun, cX7_keepRun, 3, none, [])
abbrev q_X7_ran : MI := (yX7_ran, cX7_ran, 2, (some .int), [])
abbrev q_X7_bar : MI := (yX7_bar, cX7_bar, 3, (some .int), [])
abbrev q_X7_wheel : MI := (yX7_wheel, cX7_wheel, 2, (some .int), [])
abbrev q_X7_pass : MI := (yX7_pass, cX7_pass, 5, (some .boolean), [])
abbrev q_X7_sort : MI := (yX7_sort, cX7_sort, 8, none, [])
abbrev q_X7_needed : MI := (yX7_needed, cX7_needed, 5, (some .int), [])
abbrev q_X7_bits : MI := (yX7_bits, cX7_bits, 5, (some .int), [])
abbrev q_X7_isOrdered : MI := (yX7_isOrdered, cX7_isOrdered, 8, (some .boolean), [])
abbrev q_X7_neededSet : MI := (yX7_neededSet, cX7_neededSet, 1, (some .int), [])
abbrev q_X7_idle : MI := (yX7_idle, cX7_idle, 3, (some .int), [])
abbrev q_X7_isLike : MI := (yX7_isLike, cX7_isLike, 3, (some .boolean), [])
abbrev q_X7_missing : MI := (yX7_missing, cX7_missing, 3, (some .int), [])
abbrev q_X7_takeLines : MI := (yX7_takeLines, cX7_takeLines, 2, (some .boolean), [])
abbrev q_X7_isWanted : MI := (yX7_isWanted, cX7_isWanted, 2, (some .boolean), [])
abbrev q_X7_wire : MI := (yX7_wire, cX7_wire, 2, (some .int), [])
abbrev q_X7_tests : MI := (yX7_tests, cX7_tests, 10, (some .int), [])
abbrev q_X7_testSet : MI := (yX7_testSet, cX7_testSet, 1, (some .int), [])
abbrev q_X7_shown : MI := (yX7_shown, cX7_shown, 1, (some .int), [])
abbrev q_X7_unseen : MI := (yX7_unseen, cX7_unseen, 3, (some .int), [])
abbrev q_X7_unseenAt : MI := (yX7_unseenAt, cX7_unseenAt, 2, (some .int), [])
abbrev q_X7_moves : MI := (yX7_moves, cX7_moves, 9, (some .int), [])
abbrev q_X7_beginOf : MI := (yX7_beginOf, cX7_beginOf, 1, (some .int), [])
abbrev q_X7_put : MI := (yX7_put, cX7_put, 4, none, [])
abbrev q_X7_move : MI := (yX7_move, cX7_move, 3, (some .int), [])
abbrev q_X7_job : MI := (yX7_job, cX7_job, 2, (some .int), [])
abbrev q_X7_readJob : MI := (yX7_readJob, cX7_readJob, 3, (some .boolean), [])
abbrev q_X7_isWord : MI := (yX7_isWord, cX7_isWord, 3, (some .boolean), [])
abbrev q_X7_want : MI := (yX7_want, cX7_want, 3, (some .boolean), [])
abbrev q_X7_isName : MI := (yX7_isName, cX7_isName, 1, (some .boolean), [])
abbrev q_X7_named : MI := (yX7_named, cX7_named, 4, (some .int), [])
abbrev q_X7_field : MI := (yX7_field, cX7_field, 4, (some .boolean), [])
abbrev q_X7_breaks : MI := (yX7_breaks, cX7_breaks, 3, (some .boolean), [])
abbrev q_X7_runs : MI := (yX7_runs, cX7_runs, 1, (some .int), [])
abbrev q_X7_plan : MI := (yX7_plan, cX7_plan, 5, (some .int), [])
abbrev q_X7_make0 : MI := (yX7_make0, cX7_make0, 9, (some .boolean), [])
abbrev q_X7_lay : MI := (yX7_lay, cX7_lay, 3, none, [])
abbrev q_X7_addends : MI := (yX7_addends, cX7_addends, 5, none, [])
abbrev q_X7_point : MI := (yX7_point, cX7_point, 3, (some .int), [])
abbrev q_X7_wants : MI := (yX7_wants, cX7_wants, 2, (some .int), [])
abbrev q_X7_part : MI := (yX7_part, cX7_part, 5, (some .int), [])
abbrev q_X7_make : MI := (yX7_make, cX7_make, 4, (some .int), [])
abbrev q_X7_wanted : MI := (yX7_wanted, cX7_wanted, 5, (some .int), [])
abbrev q_X7_dues : MI := (yX7_dues, cX7_dues, 7, (some .int), [])
abbrev q_X7_added : MI := (yX7_added, cX7_added, 6, (some .int), [])
abbrev q_X7_dueLine : MI := (yX7_dueLine, cX7_dueLine, 9, none, [])
abbrev q_X7_wantedAt : MI := (yX7_wantedAt, cX7_wantedAt, 3, (some .int), [])
abbrev q_X7_same : MI := (yX7_same, cX7_same, 6, (some .int), [])
abbrev q_X7_keep : MI := (yX7_keep, cX7_keep, 2, (some .boolean), [])
abbrev q_X7_use : MI := (yX7_use, cX7_use, 2, (some .int), [])
abbrev q_X7_isThere : MI := (yX7_isThere, cX7_isThere, 2, (some .boolean), [])
abbrev q_X7_apart : MI := (yX7_apart, cX7_apart, 3, (some .int), [])
abbrev q_X7_differ : MI := (yX7_differ, cX7_differ, 7, (some .int), [])
abbrev q_X7_isOne : MI := (yX7_isOne, cX7_isOne, 3, (some .boolean), [])
abbrev q_X7_friday : MI := (yX7_friday, cX7_friday, 7, (some .int), [])
abbrev q_X7_spell : MI := (yX7_spell, cX7_spell, 10, none, [])
abbrev q_X7_ends : MI := (yX7_ends, cX7_ends, 5, (some .int), [])
abbrev q_X7_fridayAt : MI := (yX7_fridayAt, cX7_fridayAt, 2, (some .int), [])
abbrev q_X7_count : MI := (yX7_count, cX7_count, 4, (some .int), [])
abbrev q_X8_init : MI := (yX8_init, cX8_init, 4, none, [])
abbrev q_X8_go : MI := (yX8_go, cX8_go, 2, none, [])
abbrev q_X8_byteAt : MI := (yX8_byteAt, cX8_byteAt, 2, (some .int), [])
abbrev q_X8_isLetter : MI := (yX8_isLetter, cX8_isLetter, 1, (some .boolean), [])
abbrev q_X8_letters : MI := (yX8_letters, cX8_letters, 2, none, [])
abbrev q_X8_isNumeral : MI := (yX8_isNumeral, cX8_isNumeral, 1, (some .boolean), [])
abbrev q_X8_digits : MI := (yX8_digits, cX8_digits, 1, none, [])
abbrev q_X8_need : MI := (yX8_need, cX8_need, 3, none, [])
abbrev q_X8_number : MI := (yX8_number, cX8_number, 4, (some .int), [])
abbrev q_X8_sign : MI := (yX8_sign, cX8_sign, 2, none, [])
abbrev q_X8_is : MI := (yX8_is, cX8_is, 2, (some .boolean), [])
abbrev q_X9_init : MI := (yX9_init, cX9_init, 3, none, [])
abbrev q_X9_read : MI := (yX9_read, cX9_read, 3, (some (.object "PlugHall$Board")), [])
abbrev q_X9_hub : MI := (yX9_hub, cX9_hub, 6, (some .int), [])
abbrev q_X9_sort : MI := (yX9_sort, cX9_sort, 5, (some (.object "PlugHall$Sort")), [])
abbrev q_L_law : MI := (yL_law, cL_law, 7, (some .boolean), [])
def mi : List MI := [q_J0_copyOf, q_J0_copyOfRange, q_J0_copyOfRangeByte, q_J0_checkLength, q_J0_fill, q_J0_fill_2, q_J11_canEncode, q_J11_equals, q_J11_indexOf, q_J11_indexOf_2, q_J6_init, q_J6_append, q_J6_ensureCapacityInternal, q_J6_isLatin1, q_J6_getValue, q_J6_length, q_J6_append_2, q_J6_putStringAt, q_J6_inflateIfNeededFor, q_J7_init, q_J7_append, q_J7_toString, q_J7_length, q_J7_append_2, q_J8_init, q_J8_init_2, q_J8_equals, q_J8_length, q_J8_coder, q_J8_getBytes, q_J8_indexOf, q_J8_isLatin1, q_X0_column, q_X0_bar, q_X0_wheel, q_X0_wantedAt, q_X1_init, q_X1_feed, q_X1_come, q_X1_end, q_X1_card, q_X1_take, q_X1_isBox, q_X1_isIn, q_X1_isDigit, q_X1_cards, q_X1_empty, q_X1_board, q_X1_mostOf, q_X1_fault, q_X1_run, q_X1_ran, q_X1_pass, q_X1_sort, q_X1_key, q_X1_idle, q_X1_runWithout, q_X1_find, q_X1_missing, q_X1_areLines, q_X1_told, q_X1_wire, q_X1_tests, q_X1_bits, q_X1_testSet, q_X1_shown, q_X1_job, q_X1_part, q_X1_firstRun, q_X1_runs, q_X1_wants, q_X1_isRun, q_X1_make, q_X1_wanted, q_X1_want, q_X1_total, q_X1_same, q_X1_needed, q_X1_isOrdered, q_X1_neededSet, q_X1_unseen, q_X1_unseenAt, q_X1_moves, q_X1_sortOf, q_X1_manyOf, q_X1_wiresOf, q_X1_move, q_X1_keep, q_X1_use, q_X1_isKept, q_X1_apart, q_X1_friday, q_X1_plan, q_X1_two, q_X1_fridayAt, q_X1_count, q_X1_column, q_X1_need, q_X1_bar, q_X1_wheel, q_X1_wantedAt, q_X10_init, q_X11_init, q_X11_read, q_X11_field, q_X11_isName, q_X11_breaks, q_X11_want, q_X12_init, q_X12_make, q_X12_wire, q_X12_takesIn, q_X12_point, q_X12_prints, q_X2_init, q_X2_add, q_X2_like, q_X2_apart, q_X2_beyond, q_X2_isLike, q_X3_init, q_X3_run, q_X3_giveCard, q_X3_settle, q_X3_joinNets, q_X3_join, q_X3_root, q_X3_seek, q_X3_takes, q_X3_take, q_X3_breaks, q_X3_act, q_X3_print, q_X3_count, q_X3_punch, q_X3_giveTotal, q_X4_init, q_X4_begin, q_X4_isLike, q_X4_printsLike, q_X4_isLike_2, q_X5_init, q_X5_find, q_X5_adds, q_X5_orderBehind, q_X6_init, q_X7_init, q_X7_thrown, q_X7_feed, q_X7_four, q_X7_end, q_X7_card, q_X7_taken, q_X7_isBox, q_X7_isIn, q_X7_octet, q_X7_cards, q_X7_column, q_X7_throwsIf, q_X7_empty, q_X7_fault, q_X7_board, q_X7_next, q_X7_peek, q_X7_isSmall, q_X7_isDigit, q_X7_read, q_X7_isHub, q_X7_bad, q_X7_hub, q_X7_takes, q_X7_sign, q_X7_most, q_X7_takesOnly, q_X7_copyBoard, q_X7_run, q_X7_load, q_X7_play, q_X7_nets, q_X7_joins, q_X7_digit, q_X7_cycle, q_X7_gather, q_X7_have, q_X7_take, q_X7_jam, q_X7_prints, q_X7_turn, q_X7_total, q_X7_keepRun, q_X7_ran, q_X7_bar, q_X7_wheel, q_X7_pass, q_X7_sort, q_X7_needed, q_X7_bits, q_X7_isOrdered, q_X7_neededSet, q_X7_idle, q_X7_isLike, q_X7_missing, q_X7_takeLines, q_X7_isWanted, q_X7_wire, q_X7_tests, q_X7_testSet, q_X7_shown, q_X7_unseen, q_X7_unseenAt, q_X7_moves, q_X7_beginOf, q_X7_put, q_X7_move, q_X7_job, q_X7_readJob, q_X7_isWord, q_X7_want, q_X7_isName, q_X7_named, q_X7_field, q_X7_breaks, q_X7_runs, q_X7_plan, q_X7_make0, q_X7_lay, q_X7_addends, q_X7_point, q_X7_wants, q_X7_part, q_X7_make, q_X7_wanted, q_X7_dues, q_X7_added, q_X7_dueLine, q_X7_wantedAt, q_X7_same, q_X7_keep, q_X7_use, q_X7_isThere, q_X7_apart, q_X7_differ, q_X7_isOne, q_X7_friday, q_X7_spell, q_X7_ends, q_X7_fridayAt, q_X7_count, q_X8_init, q_X8_go, q_X8_byteAt, q_X8_isLetter, q_X8_letters, q_X8_isNumeral, q_X8_digits, q_X8_need, q_X8_number, q_X8_sign, q_X8_is, q_X9_init, q_X9_read, q_X9_hub, q_X9_sort, q_L_law]
theorem mi_J0_copyOf : mi[0]? = some q_J0_copyOf := rfl
theorem mi_J0_copyOfRange : mi[1]? = some q_J0_copyOfRange := rfl
theorem mi_J0_copyOfRangeByte : mi[2]? = some q_J0_copyOfRangeByte := rfl
theorem mi_J0_checkLength : mi[3]? = some q_J0_checkLength := rfl
theorem mi_J0_fill : mi[4]? = some q_J0_fill := rfl
theorem mi_J0_fill_2 : mi[5]? = some q_J0_fill_2 := rfl
theorem mi_J11_canEncode : mi[6]? = some q_J11_canEncode := rfl
theorem mi_J11_equals : mi[7]? = some q_J11_equals := rfl
theorem mi_J11_indexOf : mi[8]? = some q_J11_indexOf := rfl
theorem mi_J11_indexOf_2 : mi[9]? = some q_J11_indexOf_2 := rfl
theorem mi_J6_init : mi[10]? = some q_J6_init := rfl
theorem mi_J6_append : mi[11]? = some q_J6_append := rfl
theorem mi_J6_ensureCapacityInternal : mi[12]? = some q_J6_ensureCapacityInternal := rfl
theorem mi_J6_isLatin1 : mi[13]? = some q_J6_isLatin1 := rfl
theorem mi_J6_getValue : mi[14]? = some q_J6_getValue := rfl
theorem mi_J6_length : mi[15]? = some q_J6_length := rfl
theorem mi_J6_append_2 : mi[16]? = some q_J6_append_2 := rfl
theorem mi_J6_putStringAt : mi[17]? = some q_J6_putStringAt := rfl
theorem mi_J6_inflateIfNeededFor : mi[18]? = some q_J6_inflateIfNeededFor := rfl
theorem mi_J7_init : mi[19]? = some q_J7_init := rfl
theorem mi_J7_append : mi[20]? = some q_J7_append := rfl
theorem mi_J7_toString : mi[21]? = some q_J7_toString := rfl
theorem mi_J7_length : mi[22]? = some q_J7_length := rfl
theorem mi_J7_append_2 : mi[23]? = some q_J7_append_2 := rfl
theorem mi_J8_init : mi[24]? = some q_J8_init := rfl
theorem mi_J8_init_2 : mi[25]? = some q_J8_init_2 := rfl
theorem mi_J8_equals : mi[26]? = some q_J8_equals := rfl
theorem mi_J8_length : mi[27]? = some q_J8_length := rfl
theorem mi_J8_coder : mi[28]? = some q_J8_coder := rfl
theorem mi_J8_getBytes : mi[29]? = some q_J8_getBytes := rfl
theorem mi_J8_indexOf : mi[30]? = some q_J8_indexOf := rfl
theorem mi_J8_isLatin1 : mi[31]? = some q_J8_isLatin1 := rfl
theorem mi_X0_column : mi[32]? = some q_X0_column := rfl
theorem mi_X0_bar : mi[33]? = some q_X0_bar := rfl
theorem mi_X0_wheel : mi[34]? = some q_X0_wheel := rfl
theorem mi_X0_wantedAt : mi[35]? = some q_X0_wantedAt := rfl
theorem mi_X1_init : mi[36]? = some q_X1_init := rfl
theorem mi_X1_feed : mi[37]? = some q_X1_feed := rfl
theorem mi_X1_come : mi[38]? = some q_X1_come := rfl
theorem mi_X1_end : mi[39]? = some q_X1_end := rfl
theorem mi_X1_card : mi[40]? = some q_X1_card := rfl
theorem mi_X1_take : mi[41]? = some q_X1_take := rfl
theorem mi_X1_isBox : mi[42]? = some q_X1_isBox := rfl
theorem mi_X1_isIn : mi[43]? = some q_X1_isIn := rfl
theorem mi_X1_isDigit : mi[44]? = some q_X1_isDigit := rfl
theorem mi_X1_cards : mi[45]? = some q_X1_cards := rfl
theorem mi_X1_empty : mi[46]? = some q_X1_empty := rfl
theorem mi_X1_board : mi[47]? = some q_X1_board := rfl
theorem mi_X1_mostOf : mi[48]? = some q_X1_mostOf := rfl
theorem mi_X1_fault : mi[49]? = some q_X1_fault := rfl
theorem mi_X1_run : mi[50]? = some q_X1_run := rfl
theorem mi_X1_ran : mi[51]? = some q_X1_ran := rfl
theorem mi_X1_pass : mi[52]? = some q_X1_pass := rfl
theorem mi_X1_sort : mi[53]? = some q_X1_sort := rfl
theorem mi_X1_key : mi[54]? = some q_X1_key := rfl
theorem mi_X1_idle : mi[55]? = some q_X1_idle := rfl
theorem mi_X1_runWithout : mi[56]? = some q_X1_runWithout := rfl
theorem mi_X1_find : mi[57]? = some q_X1_find := rfl
theorem mi_X1_missing : mi[58]? = some q_X1_missing := rfl
theorem mi_X1_areLines : mi[59]? = some q_X1_areLines := rfl
theorem mi_X1_told : mi[60]? = some q_X1_told := rfl
theorem mi_X1_wire : mi[61]? = some q_X1_wire := rfl
theorem mi_X1_tests : mi[62]? = some q_X1_tests := rfl
theorem mi_X1_bits : mi[63]? = some q_X1_bits := rfl
theorem mi_X1_testSet : mi[64]? = some q_X1_testSet := rfl
theorem mi_X1_shown : mi[65]? = some q_X1_shown := rfl
theorem mi_X1_job : mi[66]? = some q_X1_job := rfl
theorem mi_X1_part : mi[67]? = some q_X1_part := rfl
theorem mi_X1_firstRun : mi[68]? = some q_X1_firstRun := rfl
theorem mi_X1_runs : mi[69]? = some q_X1_runs := rfl
theorem mi_X1_wants : mi[70]? = some q_X1_wants := rfl
theorem mi_X1_isRun : mi[71]? = some q_X1_isRun := rfl
theorem mi_X1_make : mi[72]? = some q_X1_make := rfl
theorem mi_X1_wanted : mi[73]? = some q_X1_wanted := rfl
theorem mi_X1_want : mi[74]? = some q_X1_want := rfl
theorem mi_X1_total : mi[75]? = some q_X1_total := rfl
theorem mi_X1_same : mi[76]? = some q_X1_same := rfl
theorem mi_X1_needed : mi[77]? = some q_X1_needed := rfl
theorem mi_X1_isOrdered : mi[78]? = some q_X1_isOrdered := rfl
theorem mi_X1_neededSet : mi[79]? = some q_X1_neededSet := rfl
theorem mi_X1_unseen : mi[80]? = some q_X1_unseen := rfl
theorem mi_X1_unseenAt : mi[81]? = some q_X1_unseenAt := rfl
theorem mi_X1_moves : mi[82]? = some q_X1_moves := rfl
theorem mi_X1_sortOf : mi[83]? = some q_X1_sortOf := rfl
theorem mi_X1_manyOf : mi[84]? = some q_X1_manyOf := rfl
theorem mi_X1_wiresOf : mi[85]? = some q_X1_wiresOf := rfl
theorem mi_X1_move : mi[86]? = some q_X1_move := rfl
theorem mi_X1_keep : mi[87]? = some q_X1_keep := rfl
theorem mi_X1_use : mi[88]? = some q_X1_use := rfl
theorem mi_X1_isKept : mi[89]? = some q_X1_isKept := rfl
theorem mi_X1_apart : mi[90]? = some q_X1_apart := rfl
theorem mi_X1_friday : mi[91]? = some q_X1_friday := rfl
theorem mi_X1_plan : mi[92]? = some q_X1_plan := rfl
theorem mi_X1_two : mi[93]? = some q_X1_two := rfl
theorem mi_X1_fridayAt : mi[94]? = some q_X1_fridayAt := rfl
theorem mi_X1_count : mi[95]? = some q_X1_count := rfl
theorem mi_X1_column : mi[96]? = some q_X1_column := rfl
theorem mi_X1_need : mi[97]? = some q_X1_need := rfl
theorem mi_X1_bar : mi[98]? = some q_X1_bar := rfl
theorem mi_X1_wheel : mi[99]? = some q_X1_wheel := rfl
theorem mi_X1_wantedAt : mi[100]? = some q_X1_wantedAt := rfl
theorem mi_X10_init : mi[101]? = some q_X10_init := rfl
theorem mi_X11_init : mi[102]? = some q_X11_init := rfl
theorem mi_X11_read : mi[103]? = some q_X11_read := rfl
theorem mi_X11_field : mi[104]? = some q_X11_field := rfl
theorem mi_X11_isName : mi[105]? = some q_X11_isName := rfl
theorem mi_X11_breaks : mi[106]? = some q_X11_breaks := rfl
theorem mi_X11_want : mi[107]? = some q_X11_want := rfl
theorem mi_X12_init : mi[108]? = some q_X12_init := rfl
theorem mi_X12_make : mi[109]? = some q_X12_make := rfl
theorem mi_X12_wire : mi[110]? = some q_X12_wire := rfl
theorem mi_X12_takesIn : mi[111]? = some q_X12_takesIn := rfl
theorem mi_X12_point : mi[112]? = some q_X12_point := rfl
theorem mi_X12_prints : mi[113]? = some q_X12_prints := rfl
theorem mi_X2_init : mi[114]? = some q_X2_init := rfl
theorem mi_X2_add : mi[115]? = some q_X2_add := rfl
theorem mi_X2_like : mi[116]? = some q_X2_like := rfl
theorem mi_X2_apart : mi[117]? = some q_X2_apart := rfl
theorem mi_X2_beyond : mi[118]? = some q_X2_beyond := rfl
theorem mi_X2_isLike : mi[119]? = some q_X2_isLike := rfl
theorem mi_X3_init : mi[120]? = some q_X3_init := rfl
theorem mi_X3_run : mi[121]? = some q_X3_run := rfl
theorem mi_X3_giveCard : mi[122]? = some q_X3_giveCard := rfl
theorem mi_X3_settle : mi[123]? = some q_X3_settle := rfl
theorem mi_X3_joinNets : mi[124]? = some q_X3_joinNets := rfl
theorem mi_X3_join : mi[125]? = some q_X3_join := rfl
theorem mi_X3_root : mi[126]? = some q_X3_root := rfl
theorem mi_X3_seek : mi[127]? = some q_X3_seek := rfl
theorem mi_X3_takes : mi[128]? = some q_X3_takes := rfl
theorem mi_X3_take : mi[129]? = some q_X3_take := rfl
theorem mi_X3_breaks : mi[130]? = some q_X3_breaks := rfl
theorem mi_X3_act : mi[131]? = some q_X3_act := rfl
theorem mi_X3_print : mi[132]? = some q_X3_print := rfl
theorem mi_X3_count : mi[133]? = some q_X3_count := rfl
theorem mi_X3_punch : mi[134]? = some q_X3_punch := rfl
theorem mi_X3_giveTotal : mi[135]? = some q_X3_giveTotal := rfl
theorem mi_X4_init : mi[136]? = some q_X4_init := rfl
theorem mi_X4_begin : mi[137]? = some q_X4_begin := rfl
theorem mi_X4_isLike : mi[138]? = some q_X4_isLike := rfl
theorem mi_X4_printsLike : mi[139]? = some q_X4_printsLike := rfl
theorem mi_X4_isLike_2 : mi[140]? = some q_X4_isLike_2 := rfl
theorem mi_X5_init : mi[141]? = some q_X5_init := rfl
theorem mi_X5_find : mi[142]? = some q_X5_find := rfl
theorem mi_X5_adds : mi[143]? = some q_X5_adds := rfl
theorem mi_X5_orderBehind : mi[144]? = some q_X5_orderBehind := rfl
theorem mi_X6_init : mi[145]? = some q_X6_init := rfl
theorem mi_X7_init : mi[146]? = some q_X7_init := rfl
theorem mi_X7_thrown : mi[147]? = some q_X7_thrown := rfl
theorem mi_X7_feed : mi[148]? = some q_X7_feed := rfl
theorem mi_X7_four : mi[149]? = some q_X7_four := rfl
theorem mi_X7_end : mi[150]? = some q_X7_end := rfl
theorem mi_X7_card : mi[151]? = some q_X7_card := rfl
theorem mi_X7_taken : mi[152]? = some q_X7_taken := rfl
theorem mi_X7_isBox : mi[153]? = some q_X7_isBox := rfl
theorem mi_X7_isIn : mi[154]? = some q_X7_isIn := rfl
theorem mi_X7_octet : mi[155]? = some q_X7_octet := rfl
theorem mi_X7_cards : mi[156]? = some q_X7_cards := rfl
theorem mi_X7_column : mi[157]? = some q_X7_column := rfl
theorem mi_X7_throwsIf : mi[158]? = some q_X7_throwsIf := rfl
theorem mi_X7_empty : mi[159]? = some q_X7_empty := rfl
theorem mi_X7_fault : mi[160]? = some q_X7_fault := rfl
theorem mi_X7_board : mi[161]? = some q_X7_board := rfl
theorem mi_X7_next : mi[162]? = some q_X7_next := rfl
theorem mi_X7_peek : mi[163]? = some q_X7_peek := rfl
theorem mi_X7_isSmall : mi[164]? = some q_X7_isSmall := rfl
theorem mi_X7_isDigit : mi[165]? = some q_X7_isDigit := rfl
theorem mi_X7_read : mi[166]? = some q_X7_read := rfl
theorem mi_X7_isHub : mi[167]? = some q_X7_isHub := rfl
theorem mi_X7_bad : mi[168]? = some q_X7_bad := rfl
theorem mi_X7_hub : mi[169]? = some q_X7_hub := rfl
theorem mi_X7_takes : mi[170]? = some q_X7_takes := rfl
theorem mi_X7_sign : mi[171]? = some q_X7_sign := rfl
theorem mi_X7_most : mi[172]? = some q_X7_most := rfl
theorem mi_X7_takesOnly : mi[173]? = some q_X7_takesOnly := rfl
theorem mi_X7_copyBoard : mi[174]? = some q_X7_copyBoard := rfl
theorem mi_X7_run : mi[175]? = some q_X7_run := rfl
theorem mi_X7_load : mi[176]? = some q_X7_load := rfl
theorem mi_X7_play : mi[177]? = some q_X7_play := rfl
theorem mi_X7_nets : mi[178]? = some q_X7_nets := rfl
theorem mi_X7_joins : mi[179]? = some q_X7_joins := rfl
theorem mi_X7_digit : mi[180]? = some q_X7_digit := rfl
theorem mi_X7_cycle : mi[181]? = some q_X7_cycle := rfl
theorem mi_X7_gather : mi[182]? = some q_X7_gather := rfl
theorem mi_X7_have : mi[183]? = some q_X7_have := rfl
theorem mi_X7_take : mi[184]? = some q_X7_take := rfl
theorem mi_X7_jam : mi[185]? = some q_X7_jam := rfl
theorem mi_X7_prints : mi[186]? = some q_X7_prints := rfl
theorem mi_X7_turn : mi[187]? = some q_X7_turn := rfl
theorem mi_X7_total : mi[188]? = some q_X7_total := rfl
theorem mi_X7_keepRun : mi[189]? = some q_X7_keepRun := rfl
theorem mi_X7_ran : mi[190]? = some q_X7_ran := rfl
theorem mi_X7_bar : mi[191]? = some q_X7_bar := rfl
theorem mi_X7_wheel : mi[192]? = some q_X7_wheel := rfl
theorem mi_X7_pass : mi[193]? = some q_X7_pass := rfl
theorem mi_X7_sort : mi[194]? = some q_X7_sort := rfl
theorem mi_X7_needed : mi[195]? = some q_X7_needed := rfl
theorem mi_X7_bits : mi[196]? = some q_X7_bits := rfl
theorem mi_X7_isOrdered : mi[197]? = some q_X7_isOrdered := rfl
theorem mi_X7_neededSet : mi[198]? = some q_X7_neededSet := rfl
theorem mi_X7_idle : mi[199]? = some q_X7_idle := rfl
theorem mi_X7_isLike : mi[200]? = some q_X7_isLike := rfl
theorem mi_X7_missing : mi[201]? = some q_X7_missing := rfl
theorem mi_X7_takeLines : mi[202]? = some q_X7_takeLines := rfl
theorem mi_X7_isWanted : mi[203]? = some q_X7_isWanted := rfl
theorem mi_X7_wire : mi[204]? = some q_X7_wire := rfl
theorem mi_X7_tests : mi[205]? = some q_X7_tests := rfl
theorem mi_X7_testSet : mi[206]? = some q_X7_testSet := rfl
theorem mi_X7_shown : mi[207]? = some q_X7_shown := rfl
theorem mi_X7_unseen : mi[208]? = some q_X7_unseen := rfl
theorem mi_X7_unseenAt : mi[209]? = some q_X7_unseenAt := rfl
theorem mi_X7_moves : mi[210]? = some q_X7_moves := rfl
theorem mi_X7_beginOf : mi[211]? = some q_X7_beginOf := rfl
theorem mi_X7_put : mi[212]? = some q_X7_put := rfl
theorem mi_X7_move : mi[213]? = some q_X7_move := rfl
theorem mi_X7_job : mi[214]? = some q_X7_job := rfl
theorem mi_X7_readJob : mi[215]? = some q_X7_readJob := rfl
theorem mi_X7_isWord : mi[216]? = some q_X7_isWord := rfl
theorem mi_X7_want : mi[217]? = some q_X7_want := rfl
theorem mi_X7_isName : mi[218]? = some q_X7_isName := rfl
theorem mi_X7_named : mi[219]? = some q_X7_named := rfl
theorem mi_X7_field : mi[220]? = some q_X7_field := rfl
theorem mi_X7_breaks : mi[221]? = some q_X7_breaks := rfl
theorem mi_X7_runs : mi[222]? = some q_X7_runs := rfl
theorem mi_X7_plan : mi[223]? = some q_X7_plan := rfl
theorem mi_X7_make0 : mi[224]? = some q_X7_make0 := rfl
theorem mi_X7_lay : mi[225]? = some q_X7_lay := rfl
theorem mi_X7_addends : mi[226]? = some q_X7_addends := rfl
theorem mi_X7_point : mi[227]? = some q_X7_point := rfl
theorem mi_X7_wants : mi[228]? = some q_X7_wants := rfl
theorem mi_X7_part : mi[229]? = some q_X7_part := rfl
theorem mi_X7_make : mi[230]? = some q_X7_make := rfl
theorem mi_X7_wanted : mi[231]? = some q_X7_wanted := rfl
theorem mi_X7_dues : mi[232]? = some q_X7_dues := rfl
theorem mi_X7_added : mi[233]? = some q_X7_added := rfl
theorem mi_X7_dueLine : mi[234]? = some q_X7_dueLine := rfl
theorem mi_X7_wantedAt : mi[235]? = some q_X7_wantedAt := rfl
theorem mi_X7_same : mi[236]? = some q_X7_same := rfl
theorem mi_X7_keep : mi[237]? = some q_X7_keep := rfl
theorem mi_X7_use : mi[238]? = some q_X7_use := rfl
theorem mi_X7_isThere : mi[239]? = some q_X7_isThere := rfl
theorem mi_X7_apart : mi[240]? = some q_X7_apart := rfl
theorem mi_X7_differ : mi[241]? = some q_X7_differ := rfl
theorem mi_X7_isOne : mi[242]? = some q_X7_isOne := rfl
theorem mi_X7_friday : mi[243]? = some q_X7_friday := rfl
theorem mi_X7_spell : mi[244]? = some q_X7_spell := rfl
theorem mi_X7_ends : mi[245]? = some q_X7_ends := rfl
theorem mi_X7_fridayAt : mi[246]? = some q_X7_fridayAt := rfl
theorem mi_X7_count : mi[247]? = some q_X7_count := rfl
theorem mi_X8_init : mi[248]? = some q_X8_init := rfl
theorem mi_X8_go : mi[249]? = some q_X8_go := rfl
theorem mi_X8_byteAt : mi[250]? = some q_X8_byteAt := rfl
theorem mi_X8_isLetter : mi[251]? = some q_X8_isLetter := rfl
theorem mi_X8_letters : mi[252]? = some q_X8_letters := rfl
theorem mi_X8_isNumeral : mi[253]? = some q_X8_isNumeral := rfl
theorem mi_X8_digits : mi[254]? = some q_X8_digits := rfl
theorem mi_X8_need : mi[255]? = some q_X8_need := rfl
theorem mi_X8_number : mi[256]? = some q_X8_number := rfl
theorem mi_X8_sign : mi[257]? = some q_X8_sign := rfl
theorem mi_X8_is : mi[258]? = some q_X8_is := rfl
theorem mi_X9_init : mi[259]? = some q_X9_init := rfl
theorem mi_X9_read : mi[260]? = some q_X9_read := rfl
theorem mi_X9_hub : mi[261]? = some q_X9_hub := rfl
theorem mi_X9_sort : mi[262]? = some q_X9_sort := rfl
theorem mi_L_law : mi[263]? = some q_L_law := rfl
theorem mo_J0_copyOf : MOk q_J0_copyOf 2 := ⟨by decide +kernel, ⟨by decide +kernel, by decide +kernel⟩, Or.inl ⟨rfl, q475⟩, by decide +kernel, by decide⟩
theorem mo_J0_copyOfRange : MOk q_J0_copyOfRange 3 := ⟨by decide +kernel, ⟨by decide +kernel, by decide +kernel⟩, Or.inl ⟨rfl, q721⟩, by decide +kernel, by decide⟩
theorem mo_J0_copyOfRangeByte : MOk q_J0_copyOfRangeByte 3 := ⟨by decide +kernel, ⟨by decide +kernel, by decide +kernel⟩, Or.inl ⟨rfl, q724⟩, by decide +kernel, by decide⟩
theorem mo_J0_checkLength : MOk q_J0_checkLength 2 := ⟨by decide +kernel, ⟨by decide +kernel, by decide +kernel⟩, Or.inl ⟨rfl, q727⟩, by decide +kernel, by decide⟩
theorem mo_J0_fill : MOk q_J0_fill 2 := ⟨by decide +kernel, ⟨by decide +kernel, by decide +kernel⟩, Or.inl ⟨rfl, q895⟩, by decide +kernel, by decide⟩
theorem mo_J0_fill_2 : MOk q_J0_fill_2 2 := ⟨by decide +kernel, ⟨by decide +kernel, by decide +kernel⟩, Or.inl ⟨rfl, q1277⟩, by decide +kernel, by decide⟩
theorem mo_J11_canEncode : MOk q_J11_canEncode 1 := ⟨by decide +kernel, ⟨by decide +kernel, by decide +kernel⟩, Or.inl ⟨rfl, q646⟩, by decide +kernel, by decide⟩
theorem mo_J11_equals : MOk q_J11_equals 2 := ⟨by decide +kernel, ⟨by decide +kernel, by decide +kernel⟩, Or.inl ⟨rfl, q777⟩, by decide +kernel, by decide⟩
theorem mo_J11_indexOf : MOk q_J11_indexOf 2 := ⟨by decide +kernel, ⟨by decide +kernel, by decide +kernel⟩, Or.inl ⟨rfl, q1141⟩, by decide +kernel, by decide⟩
theorem mo_J11_indexOf_2 : MOk q_J11_indexOf_2 5 := ⟨by decide +kernel, ⟨by decide +kernel, by decide +kernel⟩, Or.inl ⟨rfl, q1144⟩, by decide +kernel, by decide⟩
theorem mo_J6_init : MOk q_J6_init 1 := ⟨by decide +kernel, ⟨by decide +kernel, by decide +kernel⟩, Or.inl ⟨rfl, q588⟩, by decide +kernel, by decide⟩
theorem mo_J6_append : MOk q_J6_append 1 := ⟨by decide +kernel, ⟨by decide +kernel, by decide +kernel⟩, Or.inl ⟨rfl, q618⟩, by decide +kernel, by decide⟩
theorem mo_J6_ensureCapacityInternal : MOk q_J6_ensureCapacityInternal 1 := ⟨by decide +kernel, ⟨by decide +kernel, by decide +kernel⟩, Or.inl ⟨rfl, q622⟩, by decide +kernel, by decide⟩
theorem mo_J6_isLatin1 : MOk q_J6_isLatin1 0 := ⟨by decide +kernel, ⟨by decide +kernel, by decide +kernel⟩, Or.inl ⟨rfl, q643⟩, by decide +kernel, by decide⟩
theorem mo_J6_getValue : MOk q_J6_getValue 0 := ⟨by decide +kernel, ⟨by decide +kernel, by decide +kernel⟩, Or.inl ⟨rfl, q709⟩, by decide +kernel, by decide⟩
theorem mo_J6_length : MOk q_J6_length 0 := ⟨by decide +kernel, ⟨by decide +kernel, by decide +kernel⟩, Or.inl ⟨rfl, q717⟩, by decide +kernel, by decide⟩
theorem mo_J6_append_2 : MOk q_J6_append_2 1 := ⟨by decide +kernel, ⟨by decide +kernel, by decide +kernel⟩, Or.inl ⟨rfl, q1090⟩, by decide +kernel, by decide⟩
theorem mo_J6_putStringAt : MOk q_J6_putStringAt 2 := ⟨by decide +kernel, ⟨by decide +kernel, by decide +kernel⟩, Or.inl ⟨rfl, q1118⟩, by decide +kernel, by decide⟩
theorem mo_J6_inflateIfNeededFor : MOk q_J6_inflateIfNeededFor 1 := ⟨by decide +kernel, ⟨by decide +kernel, by decide +kernel⟩, Or.inl ⟨rfl, q1122⟩, by decide +kernel, by decide⟩
theorem mo_J7_init : MOk q_J7_init 0 := ⟨by decide +kernel, ⟨by decide +kernel, by decide +kernel⟩, Or.inl ⟨rfl, q585⟩, by decide +kernel, by decide⟩
theorem mo_J7_append : MOk q_J7_append 1 := ⟨by decide +kernel, ⟨by decide +kernel, by decide +kernel⟩, Or.inl ⟨rfl, q615⟩, by decide +kernel, by decide⟩
theorem mo_J7_toString : MOk q_J7_toString 0 := ⟨by decide +kernel, ⟨by decide +kernel, by decide +kernel⟩, Or.inl ⟨rfl, q695⟩, by decide +kernel, by decide⟩
theorem mo_J7_length : MOk q_J7_length 0 := ⟨by decide +kernel, ⟨by decide +kernel, by decide +kernel⟩, Or.inl ⟨rfl, q715⟩, by decide +kernel, by decide⟩
theorem mo_J7_append_2 : MOk q_J7_append_2 1 := ⟨by decide +kernel, ⟨by decide +kernel, by decide +kernel⟩, Or.inl ⟨rfl, q1087⟩, by decide +kernel, by decide⟩
theorem mo_J8_init : MOk q_J8_init 1 := ⟨by decide +kernel, ⟨by decide +kernel, by decide +kernel⟩, Or.inl ⟨rfl, q700⟩, by decide +kernel, by decide⟩
theorem mo_J8_init_2 : MOk q_J8_init_2 2 := ⟨by decide +kernel, ⟨by decide +kernel, by decide +kernel⟩, Or.inl ⟨rfl, q703⟩, by decide +kernel, by decide⟩
theorem mo_J8_equals : MOk q_J8_equals 1 := ⟨by decide +kernel, ⟨by decide +kernel, by decide +kernel⟩, Or.inl ⟨rfl, q773⟩, by decide +kernel, by decide⟩
theorem mo_J8_length : MOk q_J8_length 0 := ⟨by decide +kernel, ⟨by decide +kernel, by decide +kernel⟩, Or.inl ⟨rfl, q1110⟩, by decide +kernel, by decide⟩
theorem mo_J8_coder : MOk q_J8_coder 0 := ⟨by decide +kernel, ⟨by decide +kernel, by decide +kernel⟩, Or.inl ⟨rfl, q1114⟩, by decide +kernel, by decide⟩
theorem mo_J8_getBytes : MOk q_J8_getBytes 3 := ⟨by decide +kernel, ⟨by decide +kernel, by decide +kernel⟩, Or.inl ⟨rfl, q1127⟩, by decide +kernel, by decide⟩
theorem mo_J8_indexOf : MOk q_J8_indexOf 1 := ⟨by decide +kernel, ⟨by decide +kernel, by decide +kernel⟩, Or.inl ⟨rfl, q1134⟩, by decide +kernel, by decide⟩
theorem mo_J8_isLatin1 : MOk q_J8_isLatin1 0 := ⟨by decide +kernel, ⟨by decide +kernel, by decide +kernel⟩, Or.inl ⟨rfl, q1138⟩, by decide +kernel, by decide⟩
theorem mo_X0_column : MOk q_X0_column 5 := ⟨by decide +kernel, ⟨by decide +kernel, by decide +kernel⟩, Or.inr q1381, by decide +kernel, by decide⟩
theorem mo_X0_bar : MOk q_X0_bar 4 := ⟨by decide +kernel, ⟨by decide +kernel, by decide +kernel⟩, Or.inr q1412, by decide +kernel, by decide⟩
theorem mo_X0_wheel : MOk q_X0_wheel 3 := ⟨by decide +kernel, ⟨by decide +kernel, by decide +kernel⟩, Or.inr q1419, by decide +kernel, by decide⟩
theorem mo_X0_wantedAt : MOk q_X0_wantedAt 4 := ⟨by decide +kernel, ⟨by decide +kernel, by decide +kernel⟩, Or.inr q1426, by decide +kernel, by decide⟩
theorem mo_X1_init : MOk q_X1_init 0 := ⟨by decide +kernel, ⟨by decide +kernel, by decide +kernel⟩, Or.inl ⟨rfl, q126⟩, by decide +kernel, by decide⟩
theorem mo_X1_feed : MOk q_X1_feed 5 := ⟨by decide +kernel, ⟨by decide +kernel, by decide +kernel⟩, Or.inl ⟨rfl, q447⟩, by decide +kernel, by decide⟩
theorem mo_X1_come : MOk q_X1_come 1 := ⟨by decide +kernel, ⟨by decide +kernel, by decide +kernel⟩, Or.inl ⟨rfl, q451⟩, by decide +kernel, by decide⟩
theorem mo_X1_end : MOk q_X1_end 1 := ⟨by decide +kernel, ⟨by decide +kernel, by decide +kernel⟩, Or.inl ⟨rfl, q455⟩, by decide +kernel, by decide⟩
theorem mo_X1_card : MOk q_X1_card 1 := ⟨by decide +kernel, ⟨by decide +kernel, by decide +kernel⟩, Or.inl ⟨rfl, q459⟩, by decide +kernel, by decide⟩
theorem mo_X1_take : MOk q_X1_take 0 := ⟨by decide +kernel, ⟨by decide +kernel, by decide +kernel⟩, Or.inl ⟨rfl, q463⟩, by decide +kernel, by decide⟩
theorem mo_X1_isBox : MOk q_X1_isBox 1 := ⟨by decide +kernel, ⟨by decide +kernel, by decide +kernel⟩, Or.inl ⟨rfl, q466⟩, by decide +kernel, by decide⟩
theorem mo_X1_isIn : MOk q_X1_isIn 3 := ⟨by decide +kernel, ⟨by decide +kernel, by decide +kernel⟩, Or.inl ⟨rfl, q469⟩, by decide +kernel, by decide⟩
theorem mo_X1_isDigit : MOk q_X1_isDigit 1 := ⟨by decide +kernel, ⟨by decide +kernel, by decide +kernel⟩, Or.inl ⟨rfl, q472⟩, by decide +kernel, by decide⟩
theorem mo_X1_cards : MOk q_X1_cards 1 := ⟨by decide +kernel, ⟨by decide +kernel, by decide +kernel⟩, Or.inl ⟨rfl, q492⟩, by decide +kernel, by decide⟩
theorem mo_X1_empty : MOk q_X1_empty 1 := ⟨by decide +kernel, ⟨by decide +kernel, by decide +kernel⟩, Or.inl ⟨rfl, q496⟩, by decide +kernel, by decide⟩
theorem mo_X1_board : MOk q_X1_board 0 := ⟨by decide +kernel, ⟨by decide +kernel, by decide +kernel⟩, Or.inr q500, by decide +kernel, by decide⟩
theorem mo_X1_mostOf : MOk q_X1_mostOf 1 := ⟨by decide +kernel, ⟨by decide +kernel, by decide +kernel⟩, Or.inl ⟨rfl, q866⟩, by decide +kernel, by decide⟩
theorem mo_X1_fault : MOk q_X1_fault 0 := ⟨by decide +kernel, ⟨by decide +kernel, by decide +kernel⟩, Or.inl ⟨rfl, q876⟩, by decide +kernel, by decide⟩
theorem mo_X1_run : MOk q_X1_run 2 := ⟨by decide +kernel, ⟨by decide +kernel, by decide +kernel⟩, Or.inl ⟨rfl, q880⟩, by decide +kernel, by decide⟩
theorem mo_X1_ran : MOk q_X1_ran 1 := ⟨by decide +kernel, ⟨by decide +kernel, by decide +kernel⟩, Or.inl ⟨rfl, q957⟩, by decide +kernel, by decide⟩
theorem mo_X1_pass : MOk q_X1_pass 2 := ⟨by decide +kernel, ⟨by decide +kernel, by decide +kernel⟩, Or.inl ⟨rfl, q961⟩, by decide +kernel, by decide⟩
theorem mo_X1_sort : MOk q_X1_sort 2 := ⟨by decide +kernel, ⟨by decide +kernel, by decide +kernel⟩, Or.inl ⟨rfl, q964⟩, by decide +kernel, by decide⟩
theorem mo_X1_key : MOk q_X1_key 2 := ⟨by decide +kernel, ⟨by decide +kernel, by decide +kernel⟩, Or.inl ⟨rfl, q967⟩, by decide +kernel, by decide⟩
theorem mo_X1_idle : MOk q_X1_idle 1 := ⟨by decide +kernel, ⟨by decide +kernel, by decide +kernel⟩, Or.inl ⟨rfl, q971⟩, by decide +kernel, by decide⟩
theorem mo_X1_runWithout : MOk q_X1_runWithout 3 := ⟨by decide +kernel, ⟨by decide +kernel, by decide +kernel⟩, Or.inl ⟨rfl, q975⟩, by decide +kernel, by decide⟩
theorem mo_X1_find : MOk q_X1_find 1 := ⟨by decide +kernel, ⟨by decide +kernel, by decide +kernel⟩, Or.inl ⟨rfl, q990⟩, by decide +kernel, by decide⟩
theorem mo_X1_missing : MOk q_X1_missing 1 := ⟨by decide +kernel, ⟨by decide +kernel, by decide +kernel⟩, Or.inl ⟨rfl, q994⟩, by decide +kernel, by decide⟩
theorem mo_X1_areLines : MOk q_X1_areLines 1 := ⟨by decide +kernel, ⟨by decide +kernel, by decide +kernel⟩, Or.inl ⟨rfl, q998⟩, by decide +kernel, by decide⟩
theorem mo_X1_told : MOk q_X1_told 1 := ⟨by decide +kernel, ⟨by decide +kernel, by decide +kernel⟩, Or.inl ⟨rfl, q1002⟩, by decide +kernel, by decide⟩
theorem mo_X1_wire : MOk q_X1_wire 1 := ⟨by decide +kernel, ⟨by decide +kernel, by decide +kernel⟩, Or.inl ⟨rfl, q1008⟩, by decide +kernel, by decide⟩
theorem mo_X1_tests : MOk q_X1_tests 1 := ⟨by decide +kernel, ⟨by decide +kernel, by decide +kernel⟩, Or.inl ⟨rfl, q1012⟩, by decide +kernel, by decide⟩
theorem mo_X1_bits : MOk q_X1_bits 1 := ⟨by decide +kernel, ⟨by decide +kernel, by decide +kernel⟩, Or.inl ⟨rfl, q1016⟩, by decide +kernel, by decide⟩
theorem mo_X1_testSet : MOk q_X1_testSet 0 := ⟨by decide +kernel, ⟨by decide +kernel, by decide +kernel⟩, Or.inl ⟨rfl, q1021⟩, by decide +kernel, by decide⟩
theorem mo_X1_shown : MOk q_X1_shown 0 := ⟨by decide +kernel, ⟨by decide +kernel, by decide +kernel⟩, Or.inl ⟨rfl, q1025⟩, by decide +kernel, by decide⟩
theorem mo_X1_job : MOk q_X1_job 0 := ⟨by decide +kernel, ⟨by decide +kernel, by decide +kernel⟩, Or.inr q1029, by decide +kernel, by decide⟩
theorem mo_X1_part : MOk q_X1_part 0 := ⟨by decide +kernel, ⟨by decide +kernel, by decide +kernel⟩, Or.inl ⟨rfl, q1182⟩, by decide +kernel, by decide⟩
theorem mo_X1_firstRun : MOk q_X1_firstRun 1 := ⟨by decide +kernel, ⟨by decide +kernel, by decide +kernel⟩, Or.inl ⟨rfl, q1237⟩, by decide +kernel, by decide⟩
theorem mo_X1_runs : MOk q_X1_runs 0 := ⟨by decide +kernel, ⟨by decide +kernel, by decide +kernel⟩, Or.inl ⟨rfl, q1241⟩, by decide +kernel, by decide⟩
theorem mo_X1_wants : MOk q_X1_wants 1 := ⟨by decide +kernel, ⟨by decide +kernel, by decide +kernel⟩, Or.inl ⟨rfl, q1245⟩, by decide +kernel, by decide⟩
theorem mo_X1_isRun : MOk q_X1_isRun 1 := ⟨by decide +kernel, ⟨by decide +kernel, by decide +kernel⟩, Or.inl ⟨rfl, q1249⟩, by decide +kernel, by decide⟩
theorem mo_X1_make : MOk q_X1_make 1 := ⟨by decide +kernel, ⟨by decide +kernel, by decide +kernel⟩, Or.inl ⟨rfl, q1253⟩, by decide +kernel, by decide⟩
theorem mo_X1_wanted : MOk q_X1_wanted 2 := ⟨by decide +kernel, ⟨by decide +kernel, by decide +kernel⟩, Or.inl ⟨rfl, q1257⟩, by decide +kernel, by decide⟩
theorem mo_X1_want : MOk q_X1_want 3 := ⟨by decide +kernel, ⟨by decide +kernel, by decide +kernel⟩, Or.inl ⟨rfl, q1261⟩, by decide +kernel, by decide⟩
theorem mo_X1_total : MOk q_X1_total 4 := ⟨by decide +kernel, ⟨by decide +kernel, by decide +kernel⟩, Or.inl ⟨rfl, q1274⟩, by decide +kernel, by decide⟩
theorem mo_X1_same : MOk q_X1_same 2 := ⟨by decide +kernel, ⟨by decide +kernel, by decide +kernel⟩, Or.inl ⟨rfl, q1283⟩, by decide +kernel, by decide⟩
theorem mo_X1_needed : MOk q_X1_needed 1 := ⟨by decide +kernel, ⟨by decide +kernel, by decide +kernel⟩, Or.inl ⟨rfl, q1287⟩, by decide +kernel, by decide⟩
theorem mo_X1_isOrdered : MOk q_X1_isOrdered 3 := ⟨by decide +kernel, ⟨by decide +kernel, by decide +kernel⟩, Or.inl ⟨rfl, q1291⟩, by decide +kernel, by decide⟩
theorem mo_X1_neededSet : MOk q_X1_neededSet 0 := ⟨by decide +kernel, ⟨by decide +kernel, by decide +kernel⟩, Or.inl ⟨rfl, q1295⟩, by decide +kernel, by decide⟩
theorem mo_X1_unseen : MOk q_X1_unseen 1 := ⟨by decide +kernel, ⟨by decide +kernel, by decide +kernel⟩, Or.inl ⟨rfl, q1299⟩, by decide +kernel, by decide⟩
theorem mo_X1_unseenAt : MOk q_X1_unseenAt 1 := ⟨by decide +kernel, ⟨by decide +kernel, by decide +kernel⟩, Or.inl ⟨rfl, q1304⟩, by decide +kernel, by decide⟩
theorem mo_X1_moves : MOk q_X1_moves 1 := ⟨by decide +kernel, ⟨by decide +kernel, by decide +kernel⟩, Or.inl ⟨rfl, q1308⟩, by decide +kernel, by decide⟩
theorem mo_X1_sortOf : MOk q_X1_sortOf 1 := ⟨by decide +kernel, ⟨by decide +kernel, by decide +kernel⟩, Or.inl ⟨rfl, q1311⟩, by decide +kernel, by decide⟩
theorem mo_X1_manyOf : MOk q_X1_manyOf 1 := ⟨by decide +kernel, ⟨by decide +kernel, by decide +kernel⟩, Or.inl ⟨rfl, q1315⟩, by decide +kernel, by decide⟩
theorem mo_X1_wiresOf : MOk q_X1_wiresOf 1 := ⟨by decide +kernel, ⟨by decide +kernel, by decide +kernel⟩, Or.inl ⟨rfl, q1320⟩, by decide +kernel, by decide⟩
theorem mo_X1_move : MOk q_X1_move 2 := ⟨by decide +kernel, ⟨by decide +kernel, by decide +kernel⟩, Or.inl ⟨rfl, q1330⟩, by decide +kernel, by decide⟩
theorem mo_X1_keep : MOk q_X1_keep 1 := ⟨by decide +kernel, ⟨by decide +kernel, by decide +kernel⟩, Or.inl ⟨rfl, q1334⟩, by decide +kernel, by decide⟩
theorem mo_X1_use : MOk q_X1_use 1 := ⟨by decide +kernel, ⟨by decide +kernel, by decide +kernel⟩, Or.inl ⟨rfl, q1338⟩, by decide +kernel, by decide⟩
theorem mo_X1_isKept : MOk q_X1_isKept 1 := ⟨by decide +kernel, ⟨by decide +kernel, by decide +kernel⟩, Or.inl ⟨rfl, q1342⟩, by decide +kernel, by decide⟩
theorem mo_X1_apart : MOk q_X1_apart 2 := ⟨by decide +kernel, ⟨by decide +kernel, by decide +kernel⟩, Or.inl ⟨rfl, q1346⟩, by decide +kernel, by decide⟩
theorem mo_X1_friday : MOk q_X1_friday 0 := ⟨by decide +kernel, ⟨by decide +kernel, by decide +kernel⟩, Or.inl ⟨rfl, q1362⟩, by decide +kernel, by decide⟩
theorem mo_X1_plan : MOk q_X1_plan 4 := ⟨by decide +kernel, ⟨by decide +kernel, by decide +kernel⟩, Or.inl ⟨rfl, q1366⟩, by decide +kernel, by decide⟩
theorem mo_X1_two : MOk q_X1_two 1 := ⟨by decide +kernel, ⟨by decide +kernel, by decide +kernel⟩, Or.inl ⟨rfl, q1370⟩, by decide +kernel, by decide⟩
theorem mo_X1_fridayAt : MOk q_X1_fridayAt 1 := ⟨by decide +kernel, ⟨by decide +kernel, by decide +kernel⟩, Or.inl ⟨rfl, q1374⟩, by decide +kernel, by decide⟩
theorem mo_X1_count : MOk q_X1_count 1 := ⟨by decide +kernel, ⟨by decide +kernel, by decide +kernel⟩, Or.inl ⟨rfl, q1378⟩, by decide +kernel, by decide⟩
theorem mo_X1_column : MOk q_X1_column 3 := ⟨by decide +kernel, ⟨by decide +kernel, by decide +kernel⟩, Or.inl ⟨rfl, q1386⟩, by decide +kernel, by decide⟩
theorem mo_X1_need : MOk q_X1_need 1 := ⟨by decide +kernel, ⟨by decide +kernel, by decide +kernel⟩, Or.inl ⟨rfl, q1389⟩, by decide +kernel, by decide⟩
theorem mo_X1_bar : MOk q_X1_bar 2 := ⟨by decide +kernel, ⟨by decide +kernel, by decide +kernel⟩, Or.inl ⟨rfl, q1416⟩, by decide +kernel, by decide⟩
theorem mo_X1_wheel : MOk q_X1_wheel 1 := ⟨by decide +kernel, ⟨by decide +kernel, by decide +kernel⟩, Or.inl ⟨rfl, q1423⟩, by decide +kernel, by decide⟩
theorem mo_X1_wantedAt : MOk q_X1_wantedAt 2 := ⟨by decide +kernel, ⟨by decide +kernel, by decide +kernel⟩, Or.inl ⟨rfl, q1430⟩, by decide +kernel, by decide⟩
theorem mo_X10_init : MOk q_X10_init 2 := ⟨by decide +kernel, ⟨by decide +kernel, by decide +kernel⟩, Or.inl ⟨rfl, q824⟩, by decide +kernel, by decide⟩
theorem mo_X11_init : MOk q_X11_init 2 := ⟨by decide +kernel, ⟨by decide +kernel, by decide +kernel⟩, Or.inl ⟨rfl, q1034⟩, by decide +kernel, by decide⟩
theorem mo_X11_read : MOk q_X11_read 0 := ⟨by decide +kernel, ⟨by decide +kernel, by decide +kernel⟩, Or.inl ⟨rfl, q1054⟩, by decide +kernel, by decide⟩
theorem mo_X11_field : MOk q_X11_field 0 := ⟨by decide +kernel, ⟨by decide +kernel, by decide +kernel⟩, Or.inl ⟨rfl, q1075⟩, by decide +kernel, by decide⟩
theorem mo_X11_isName : MOk q_X11_isName 0 := ⟨by decide +kernel, ⟨by decide +kernel, by decide +kernel⟩, Or.inl ⟨rfl, q1079⟩, by decide +kernel, by decide⟩
theorem mo_X11_breaks : MOk q_X11_breaks 0 := ⟨by decide +kernel, ⟨by decide +kernel, by decide +kernel⟩, Or.inl ⟨rfl, q1169⟩, by decide +kernel, by decide⟩
theorem mo_X11_want : MOk q_X11_want 1 := ⟨by decide +kernel, ⟨by decide +kernel, by decide +kernel⟩, Or.inl ⟨rfl, q1174⟩, by decide +kernel, by decide⟩
theorem mo_X12_init : MOk q_X12_init 1 := ⟨by decide +kernel, ⟨by decide +kernel, by decide +kernel⟩, Or.inl ⟨rfl, q1187⟩, by decide +kernel, by decide⟩
theorem mo_X12_make : MOk q_X12_make 1 := ⟨by decide +kernel, ⟨by decide +kernel, by decide +kernel⟩, Or.inl ⟨rfl, q1216⟩, by decide +kernel, by decide⟩
theorem mo_X12_wire : MOk q_X12_wire 2 := ⟨by decide +kernel, ⟨by decide +kernel, by decide +kernel⟩, Or.inl ⟨rfl, q1220⟩, by decide +kernel, by decide⟩
theorem mo_X12_takesIn : MOk q_X12_takesIn 2 := ⟨by decide +kernel, ⟨by decide +kernel, by decide +kernel⟩, Or.inl ⟨rfl, q1225⟩, by decide +kernel, by decide⟩
theorem mo_X12_point : MOk q_X12_point 1 := ⟨by decide +kernel, ⟨by decide +kernel, by decide +kernel⟩, Or.inl ⟨rfl, q1229⟩, by decide +kernel, by decide⟩
theorem mo_X12_prints : MOk q_X12_prints 2 := ⟨by decide +kernel, ⟨by decide +kernel, by decide +kernel⟩, Or.inl ⟨rfl, q1233⟩, by decide +kernel, by decide⟩
theorem mo_X2_init : MOk q_X2_init 0 := ⟨by decide +kernel, ⟨by decide +kernel, by decide +kernel⟩, Or.inl ⟨rfl, q136⟩, by decide +kernel, by decide⟩
theorem mo_X2_add : MOk q_X2_add 2 := ⟨by decide +kernel, ⟨by decide +kernel, by decide +kernel⟩, Or.inl ⟨rfl, q872⟩, by decide +kernel, by decide⟩
theorem mo_X2_like : MOk q_X2_like 4 := ⟨by decide +kernel, ⟨by decide +kernel, by decide +kernel⟩, Or.inl ⟨rfl, q1325⟩, by decide +kernel, by decide⟩
theorem mo_X2_apart : MOk q_X2_apart 1 := ⟨by decide +kernel, ⟨by decide +kernel, by decide +kernel⟩, Or.inl ⟨rfl, q1350⟩, by decide +kernel, by decide⟩
theorem mo_X2_beyond : MOk q_X2_beyond 1 := ⟨by decide +kernel, ⟨by decide +kernel, by decide +kernel⟩, Or.inl ⟨rfl, q1354⟩, by decide +kernel, by decide⟩
theorem mo_X2_isLike : MOk q_X2_isLike 3 := ⟨by decide +kernel, ⟨by decide +kernel, by decide +kernel⟩, Or.inl ⟨rfl, q1358⟩, by decide +kernel, by decide⟩
theorem mo_X3_init : MOk q_X3_init 0 := ⟨by decide +kernel, ⟨by decide +kernel, by decide +kernel⟩, Or.inl ⟨rfl, q161⟩, by decide +kernel, by decide⟩
theorem mo_X3_run : MOk q_X3_run 7 := ⟨by decide +kernel, ⟨by decide +kernel, by decide +kernel⟩, Or.inl ⟨rfl, q884⟩, by decide +kernel, by decide⟩
theorem mo_X3_giveCard : MOk q_X3_giveCard 2 := ⟨by decide +kernel, ⟨by decide +kernel, by decide +kernel⟩, Or.inl ⟨rfl, q892⟩, by decide +kernel, by decide⟩
theorem mo_X3_settle : MOk q_X3_settle 1 := ⟨by decide +kernel, ⟨by decide +kernel, by decide +kernel⟩, Or.inl ⟨rfl, q899⟩, by decide +kernel, by decide⟩
theorem mo_X3_joinNets : MOk q_X3_joinNets 0 := ⟨by decide +kernel, ⟨by decide +kernel, by decide +kernel⟩, Or.inl ⟨rfl, q903⟩, by decide +kernel, by decide⟩
theorem mo_X3_join : MOk q_X3_join 2 := ⟨by decide +kernel, ⟨by decide +kernel, by decide +kernel⟩, Or.inl ⟨rfl, q907⟩, by decide +kernel, by decide⟩
theorem mo_X3_root : MOk q_X3_root 1 := ⟨by decide +kernel, ⟨by decide +kernel, by decide +kernel⟩, Or.inl ⟨rfl, q911⟩, by decide +kernel, by decide⟩
theorem mo_X3_seek : MOk q_X3_seek 0 := ⟨by decide +kernel, ⟨by decide +kernel, by decide +kernel⟩, Or.inl ⟨rfl, q915⟩, by decide +kernel, by decide⟩
theorem mo_X3_takes : MOk q_X3_takes 1 := ⟨by decide +kernel, ⟨by decide +kernel, by decide +kernel⟩, Or.inl ⟨rfl, q919⟩, by decide +kernel, by decide⟩
theorem mo_X3_take : MOk q_X3_take 1 := ⟨by decide +kernel, ⟨by decide +kernel, by decide +kernel⟩, Or.inl ⟨rfl, q923⟩, by decide +kernel, by decide⟩
theorem mo_X3_breaks : MOk q_X3_breaks 0 := ⟨by decide +kernel, ⟨by decide +kernel, by decide +kernel⟩, Or.inl ⟨rfl, q927⟩, by decide +kernel, by decide⟩
theorem mo_X3_act : MOk q_X3_act 0 := ⟨by decide +kernel, ⟨by decide +kernel, by decide +kernel⟩, Or.inl ⟨rfl, q931⟩, by decide +kernel, by decide⟩
theorem mo_X3_print : MOk q_X3_print 0 := ⟨by decide +kernel, ⟨by decide +kernel, by decide +kernel⟩, Or.inl ⟨rfl, q935⟩, by decide +kernel, by decide⟩
theorem mo_X3_count : MOk q_X3_count 0 := ⟨by decide +kernel, ⟨by decide +kernel, by decide +kernel⟩, Or.inl ⟨rfl, q939⟩, by decide +kernel, by decide⟩
theorem mo_X3_punch : MOk q_X3_punch 0 := ⟨by decide +kernel, ⟨by decide +kernel, by decide +kernel⟩, Or.inl ⟨rfl, q949⟩, by decide +kernel, by decide⟩
theorem mo_X3_giveTotal : MOk q_X3_giveTotal 1 := ⟨by decide +kernel, ⟨by decide +kernel, by decide +kernel⟩, Or.inl ⟨rfl, q953⟩, by decide +kernel, by decide⟩
theorem mo_X4_init : MOk q_X4_init 0 := ⟨by decide +kernel, ⟨by decide +kernel, by decide +kernel⟩, Or.inl ⟨rfl, q198⟩, by decide +kernel, by decide⟩
theorem mo_X4_begin : MOk q_X4_begin 0 := ⟨by decide +kernel, ⟨by decide +kernel, by decide +kernel⟩, Or.inl ⟨rfl, q888⟩, by decide +kernel, by decide⟩
theorem mo_X4_isLike : MOk q_X4_isLike 1 := ⟨by decide +kernel, ⟨by decide +kernel, by decide +kernel⟩, Or.inl ⟨rfl, q979⟩, by decide +kernel, by decide⟩
theorem mo_X4_printsLike : MOk q_X4_printsLike 1 := ⟨by decide +kernel, ⟨by decide +kernel, by decide +kernel⟩, Or.inl ⟨rfl, q983⟩, by decide +kernel, by decide⟩
theorem mo_X4_isLike_2 : MOk q_X4_isLike_2 3 := ⟨by decide +kernel, ⟨by decide +kernel, by decide +kernel⟩, Or.inl ⟨rfl, q986⟩, by decide +kernel, by decide⟩
theorem mo_X5_init : MOk q_X5_init 0 := ⟨by decide +kernel, ⟨by decide +kernel, by decide +kernel⟩, Or.inl ⟨rfl, q262⟩, by decide +kernel, by decide⟩
theorem mo_X5_find : MOk q_X5_find 1 := ⟨by decide +kernel, ⟨by decide +kernel, by decide +kernel⟩, Or.inl ⟨rfl, q1160⟩, by decide +kernel, by decide⟩
theorem mo_X5_adds : MOk q_X5_adds 2 := ⟨by decide +kernel, ⟨by decide +kernel, by decide +kernel⟩, Or.inl ⟨rfl, q1265⟩, by decide +kernel, by decide⟩
theorem mo_X5_orderBehind : MOk q_X5_orderBehind 2 := ⟨by decide +kernel, ⟨by decide +kernel, by decide +kernel⟩, Or.inl ⟨rfl, q1270⟩, by decide +kernel, by decide⟩
theorem mo_X6_init : MOk q_X6_init 0 := ⟨by decide +kernel, ⟨by decide +kernel, by decide +kernel⟩, Or.inl ⟨rfl, q323⟩, by decide +kernel, by decide⟩
theorem mo_X7_init : MOk q_X7_init 0 := ⟨by decide +kernel, ⟨by decide +kernel, by decide +kernel⟩, Or.inl ⟨rfl, q1435⟩, by decide +kernel, by decide⟩
theorem mo_X7_thrown : MOk q_X7_thrown 0 := ⟨by decide +kernel, ⟨by decide +kernel, by decide +kernel⟩, Or.inl ⟨rfl, q1717⟩, by decide +kernel, by decide⟩
theorem mo_X7_feed : MOk q_X7_feed 5 := ⟨by decide +kernel, ⟨by decide +kernel, by decide +kernel⟩, Or.inl ⟨rfl, q1721⟩, by decide +kernel, by decide⟩
theorem mo_X7_four : MOk q_X7_four 1 := ⟨by decide +kernel, ⟨by decide +kernel, by decide +kernel⟩, Or.inl ⟨rfl, q1725⟩, by decide +kernel, by decide⟩
theorem mo_X7_end : MOk q_X7_end 1 := ⟨by decide +kernel, ⟨by decide +kernel, by decide +kernel⟩, Or.inl ⟨rfl, q1729⟩, by decide +kernel, by decide⟩
theorem mo_X7_card : MOk q_X7_card 1 := ⟨by decide +kernel, ⟨by decide +kernel, by decide +kernel⟩, Or.inl ⟨rfl, q1733⟩, by decide +kernel, by decide⟩
theorem mo_X7_taken : MOk q_X7_taken 0 := ⟨by decide +kernel, ⟨by decide +kernel, by decide +kernel⟩, Or.inl ⟨rfl, q1737⟩, by decide +kernel, by decide⟩
theorem mo_X7_isBox : MOk q_X7_isBox 1 := ⟨by decide +kernel, ⟨by decide +kernel, by decide +kernel⟩, Or.inl ⟨rfl, q1740⟩, by decide +kernel, by decide⟩
theorem mo_X7_isIn : MOk q_X7_isIn 3 := ⟨by decide +kernel, ⟨by decide +kernel, by decide +kernel⟩, Or.inl ⟨rfl, q1743⟩, by decide +kernel, by decide⟩
theorem mo_X7_octet : MOk q_X7_octet 1 := ⟨by decide +kernel, ⟨by decide +kernel, by decide +kernel⟩, Or.inl ⟨rfl, q1747⟩, by decide +kernel, by decide⟩
theorem mo_X7_cards : MOk q_X7_cards 1 := ⟨by decide +kernel, ⟨by decide +kernel, by decide +kernel⟩, Or.inl ⟨rfl, q1751⟩, by decide +kernel, by decide⟩
theorem mo_X7_column : MOk q_X7_column 3 := ⟨by decide +kernel, ⟨by decide +kernel, by decide +kernel⟩, Or.inl ⟨rfl, q1755⟩, by decide +kernel, by decide⟩
theorem mo_X7_throwsIf : MOk q_X7_throwsIf 1 := ⟨by decide +kernel, ⟨by decide +kernel, by decide +kernel⟩, Or.inl ⟨rfl, q1759⟩, by decide +kernel, by decide⟩
theorem mo_X7_empty : MOk q_X7_empty 1 := ⟨by decide +kernel, ⟨by decide +kernel, by decide +kernel⟩, Or.inl ⟨rfl, q1763⟩, by decide +kernel, by decide⟩
theorem mo_X7_fault : MOk q_X7_fault 0 := ⟨by decide +kernel, ⟨by decide +kernel, by decide +kernel⟩, Or.inl ⟨rfl, q1767⟩, by decide +kernel, by decide⟩
theorem mo_X7_board : MOk q_X7_board 0 := ⟨by decide +kernel, ⟨by decide +kernel, by decide +kernel⟩, Or.inl ⟨rfl, q1771⟩, by decide +kernel, by decide⟩
theorem mo_X7_next : MOk q_X7_next 0 := ⟨by decide +kernel, ⟨by decide +kernel, by decide +kernel⟩, Or.inl ⟨rfl, q1775⟩, by decide +kernel, by decide⟩
theorem mo_X7_peek : MOk q_X7_peek 0 := ⟨by decide +kernel, ⟨by decide +kernel, by decide +kernel⟩, Or.inl ⟨rfl, q1779⟩, by decide +kernel, by decide⟩
theorem mo_X7_isSmall : MOk q_X7_isSmall 1 := ⟨by decide +kernel, ⟨by decide +kernel, by decide +kernel⟩, Or.inl ⟨rfl, q1782⟩, by decide +kernel, by decide⟩
theorem mo_X7_isDigit : MOk q_X7_isDigit 1 := ⟨by decide +kernel, ⟨by decide +kernel, by decide +kernel⟩, Or.inl ⟨rfl, q1785⟩, by decide +kernel, by decide⟩
theorem mo_X7_read : MOk q_X7_read 0 := ⟨by decide +kernel, ⟨by decide +kernel, by decide +kernel⟩, Or.inl ⟨rfl, q1789⟩, by decide +kernel, by decide⟩
theorem mo_X7_isHub : MOk q_X7_isHub 1 := ⟨by decide +kernel, ⟨by decide +kernel, by decide +kernel⟩, Or.inl ⟨rfl, q1793⟩, by decide +kernel, by decide⟩
theorem mo_X7_bad : MOk q_X7_bad 2 := ⟨by decide +kernel, ⟨by decide +kernel, by decide +kernel⟩, Or.inl ⟨rfl, q1820⟩, by decide +kernel, by decide⟩
theorem mo_X7_hub : MOk q_X7_hub 1 := ⟨by decide +kernel, ⟨by decide +kernel, by decide +kernel⟩, Or.inl ⟨rfl, q1824⟩, by decide +kernel, by decide⟩
theorem mo_X7_takes : MOk q_X7_takes 2 := ⟨by decide +kernel, ⟨by decide +kernel, by decide +kernel⟩, Or.inl ⟨rfl, q1828⟩, by decide +kernel, by decide⟩
theorem mo_X7_sign : MOk q_X7_sign 1 := ⟨by decide +kernel, ⟨by decide +kernel, by decide +kernel⟩, Or.inl ⟨rfl, q1832⟩, by decide +kernel, by decide⟩
theorem mo_X7_most : MOk q_X7_most 1 := ⟨by decide +kernel, ⟨by decide +kernel, by decide +kernel⟩, Or.inl ⟨rfl, q1835⟩, by decide +kernel, by decide⟩
theorem mo_X7_takesOnly : MOk q_X7_takesOnly 1 := ⟨by decide +kernel, ⟨by decide +kernel, by decide +kernel⟩, Or.inl ⟨rfl, q1838⟩, by decide +kernel, by decide⟩
theorem mo_X7_copyBoard : MOk q_X7_copyBoard 2 := ⟨by decide +kernel, ⟨by decide +kernel, by decide +kernel⟩, Or.inl ⟨rfl, q1842⟩, by decide +kernel, by decide⟩
theorem mo_X7_run : MOk q_X7_run 2 := ⟨by decide +kernel, ⟨by decide +kernel, by decide +kernel⟩, Or.inl ⟨rfl, q1846⟩, by decide +kernel, by decide⟩
theorem mo_X7_load : MOk q_X7_load 4 := ⟨by decide +kernel, ⟨by decide +kernel, by decide +kernel⟩, Or.inl ⟨rfl, q1850⟩, by decide +kernel, by decide⟩
theorem mo_X7_play : MOk q_X7_play 1 := ⟨by decide +kernel, ⟨by decide +kernel, by decide +kernel⟩, Or.inl ⟨rfl, q1854⟩, by decide +kernel, by decide⟩
theorem mo_X7_nets : MOk q_X7_nets 2 := ⟨by decide +kernel, ⟨by decide +kernel, by decide +kernel⟩, Or.inl ⟨rfl, q1858⟩, by decide +kernel, by decide⟩
theorem mo_X7_joins : MOk q_X7_joins 3 := ⟨by decide +kernel, ⟨by decide +kernel, by decide +kernel⟩, Or.inl ⟨rfl, q1861⟩, by decide +kernel, by decide⟩
theorem mo_X7_digit : MOk q_X7_digit 2 := ⟨by decide +kernel, ⟨by decide +kernel, by decide +kernel⟩, Or.inl ⟨rfl, q1865⟩, by decide +kernel, by decide⟩
theorem mo_X7_cycle : MOk q_X7_cycle 1 := ⟨by decide +kernel, ⟨by decide +kernel, by decide +kernel⟩, Or.inl ⟨rfl, q1869⟩, by decide +kernel, by decide⟩
theorem mo_X7_gather : MOk q_X7_gather 2 := ⟨by decide +kernel, ⟨by decide +kernel, by decide +kernel⟩, Or.inl ⟨rfl, q1873⟩, by decide +kernel, by decide⟩
theorem mo_X7_have : MOk q_X7_have 1 := ⟨by decide +kernel, ⟨by decide +kernel, by decide +kernel⟩, Or.inl ⟨rfl, q1877⟩, by decide +kernel, by decide⟩
theorem mo_X7_take : MOk q_X7_take 2 := ⟨by decide +kernel, ⟨by decide +kernel, by decide +kernel⟩, Or.inl ⟨rfl, q1881⟩, by decide +kernel, by decide⟩
theorem mo_X7_jam : MOk q_X7_jam 1 := ⟨by decide +kernel, ⟨by decide +kernel, by decide +kernel⟩, Or.inl ⟨rfl, q1885⟩, by decide +kernel, by decide⟩
theorem mo_X7_prints : MOk q_X7_prints 0 := ⟨by decide +kernel, ⟨by decide +kernel, by decide +kernel⟩, Or.inl ⟨rfl, q1889⟩, by decide +kernel, by decide⟩
theorem mo_X7_turn : MOk q_X7_turn 1 := ⟨by decide +kernel, ⟨by decide +kernel, by decide +kernel⟩, Or.inl ⟨rfl, q1893⟩, by decide +kernel, by decide⟩
theorem mo_X7_total : MOk q_X7_total 1 := ⟨by decide +kernel, ⟨by decide +kernel, by decide +kernel⟩, Or.inl ⟨rfl, q1900⟩, by decide +kernel, by decide⟩
theorem mo_X7_keepRun : MOk q_X7_keepRun 1 := ⟨by decide +kernel, ⟨by decide +kernel, by decide +kernel⟩, Or.inl ⟨rfl, q1904⟩, by decide +kernel, by decide⟩
theorem mo_X7_ran : MOk q_X7_ran 1 := ⟨by decide +kernel, ⟨by decide +kernel, by decide +kernel⟩, Or.inl ⟨rfl, q1908⟩, by decide +kernel, by decide⟩
theorem mo_X7_bar : MOk q_X7_bar 2 := ⟨by decide +kernel, ⟨by decide +kernel, by decide +kernel⟩, Or.inl ⟨rfl, q1912⟩, by decide +kernel, by decide⟩
theorem mo_X7_wheel : MOk q_X7_wheel 1 := ⟨by decide +kernel, ⟨by decide +kernel, by decide +kernel⟩, Or.inl ⟨rfl, q1916⟩, by decide +kernel, by decide⟩
theorem mo_X7_pass : MOk q_X7_pass 2 := ⟨by decide +kernel, ⟨by decide +kernel, by decide +kernel⟩, Or.inl ⟨rfl, q1920⟩, by decide +kernel, by decide⟩
theorem mo_X7_sort : MOk q_X7_sort 2 := ⟨by decide +kernel, ⟨by decide +kernel, by decide +kernel⟩, Or.inl ⟨rfl, q1924⟩, by decide +kernel, by decide⟩
theorem mo_X7_needed : MOk q_X7_needed 1 := ⟨by decide +kernel, ⟨by decide +kernel, by decide +kernel⟩, Or.inl ⟨rfl, q1928⟩, by decide +kernel, by decide⟩
theorem mo_X7_bits : MOk q_X7_bits 1 := ⟨by decide +kernel, ⟨by decide +kernel, by decide +kernel⟩, Or.inl ⟨rfl, q1931⟩, by decide +kernel, by decide⟩
theorem mo_X7_isOrdered : MOk q_X7_isOrdered 2 := ⟨by decide +kernel, ⟨by decide +kernel, by decide +kernel⟩, Or.inl ⟨rfl, q1935⟩, by decide +kernel, by decide⟩
theorem mo_X7_neededSet : MOk q_X7_neededSet 0 := ⟨by decide +kernel, ⟨by decide +kernel, by decide +kernel⟩, Or.inl ⟨rfl, q1939⟩, by decide +kernel, by decide⟩
theorem mo_X7_idle : MOk q_X7_idle 1 := ⟨by decide +kernel, ⟨by decide +kernel, by decide +kernel⟩, Or.inl ⟨rfl, q1943⟩, by decide +kernel, by decide⟩
theorem mo_X7_isLike : MOk q_X7_isLike 1 := ⟨by decide +kernel, ⟨by decide +kernel, by decide +kernel⟩, Or.inl ⟨rfl, q1947⟩, by decide +kernel, by decide⟩
theorem mo_X7_missing : MOk q_X7_missing 1 := ⟨by decide +kernel, ⟨by decide +kernel, by decide +kernel⟩, Or.inl ⟨rfl, q1951⟩, by decide +kernel, by decide⟩
theorem mo_X7_takeLines : MOk q_X7_takeLines 0 := ⟨by decide +kernel, ⟨by decide +kernel, by decide +kernel⟩, Or.inl ⟨rfl, q1955⟩, by decide +kernel, by decide⟩
theorem mo_X7_isWanted : MOk q_X7_isWanted 0 := ⟨by decide +kernel, ⟨by decide +kernel, by decide +kernel⟩, Or.inl ⟨rfl, q1959⟩, by decide +kernel, by decide⟩
theorem mo_X7_wire : MOk q_X7_wire 1 := ⟨by decide +kernel, ⟨by decide +kernel, by decide +kernel⟩, Or.inl ⟨rfl, q1963⟩, by decide +kernel, by decide⟩
theorem mo_X7_tests : MOk q_X7_tests 1 := ⟨by decide +kernel, ⟨by decide +kernel, by decide +kernel⟩, Or.inl ⟨rfl, q1967⟩, by decide +kernel, by decide⟩
theorem mo_X7_testSet : MOk q_X7_testSet 0 := ⟨by decide +kernel, ⟨by decide +kernel, by decide +kernel⟩, Or.inl ⟨rfl, q1971⟩, by decide +kernel, by decide⟩
theorem mo_X7_shown : MOk q_X7_shown 0 := ⟨by decide +kernel, ⟨by decide +kernel, by decide +kernel⟩, Or.inl ⟨rfl, q1975⟩, by decide +kernel, by decide⟩
theorem mo_X7_unseen : MOk q_X7_unseen 1 := ⟨by decide +kernel, ⟨by decide +kernel, by decide +kernel⟩, Or.inl ⟨rfl, q1979⟩, by decide +kernel, by decide⟩
theorem mo_X7_unseenAt : MOk q_X7_unseenAt 1 := ⟨by decide +kernel, ⟨by decide +kernel, by decide +kernel⟩, Or.inl ⟨rfl, q1983⟩, by decide +kernel, by decide⟩
theorem mo_X7_moves : MOk q_X7_moves 1 := ⟨by decide +kernel, ⟨by decide +kernel, by decide +kernel⟩, Or.inl ⟨rfl, q1987⟩, by decide +kernel, by decide⟩
theorem mo_X7_beginOf : MOk q_X7_beginOf 1 := ⟨by decide +kernel, ⟨by decide +kernel, by decide +kernel⟩, Or.inl ⟨rfl, q1990⟩, by decide +kernel, by decide⟩
theorem mo_X7_put : MOk q_X7_put 3 := ⟨by decide +kernel, ⟨by decide +kernel, by decide +kernel⟩, Or.inl ⟨rfl, q1994⟩, by decide +kernel, by decide⟩
theorem mo_X7_move : MOk q_X7_move 2 := ⟨by decide +kernel, ⟨by decide +kernel, by decide +kernel⟩, Or.inl ⟨rfl, q1998⟩, by decide +kernel, by decide⟩
theorem mo_X7_job : MOk q_X7_job 0 := ⟨by decide +kernel, ⟨by decide +kernel, by decide +kernel⟩, Or.inl ⟨rfl, q2002⟩, by decide +kernel, by decide⟩
theorem mo_X7_readJob : MOk q_X7_readJob 0 := ⟨by decide +kernel, ⟨by decide +kernel, by decide +kernel⟩, Or.inl ⟨rfl, q2006⟩, by decide +kernel, by decide⟩
theorem mo_X7_isWord : MOk q_X7_isWord 1 := ⟨by decide +kernel, ⟨by decide +kernel, by decide +kernel⟩, Or.inl ⟨rfl, q2011⟩, by decide +kernel, by decide⟩
theorem mo_X7_want : MOk q_X7_want 0 := ⟨by decide +kernel, ⟨by decide +kernel, by decide +kernel⟩, Or.inl ⟨rfl, q2018⟩, by decide +kernel, by decide⟩
theorem mo_X7_isName : MOk q_X7_isName 0 := ⟨by decide +kernel, ⟨by decide +kernel, by decide +kernel⟩, Or.inl ⟨rfl, q2022⟩, by decide +kernel, by decide⟩
theorem mo_X7_named : MOk q_X7_named 1 := ⟨by decide +kernel, ⟨by decide +kernel, by decide +kernel⟩, Or.inl ⟨rfl, q2027⟩, by decide +kernel, by decide⟩
theorem mo_X7_field : MOk q_X7_field 0 := ⟨by decide +kernel, ⟨by decide +kernel, by decide +kernel⟩, Or.inl ⟨rfl, q2031⟩, by decide +kernel, by decide⟩
theorem mo_X7_breaks : MOk q_X7_breaks 0 := ⟨by decide +kernel, ⟨by decide +kernel, by decide +kernel⟩, Or.inl ⟨rfl, q2035⟩, by decide +kernel, by decide⟩
theorem mo_X7_runs : MOk q_X7_runs 0 := ⟨by decide +kernel, ⟨by decide +kernel, by decide +kernel⟩, Or.inl ⟨rfl, q2039⟩, by decide +kernel, by decide⟩
theorem mo_X7_plan : MOk q_X7_plan 0 := ⟨by decide +kernel, ⟨by decide +kernel, by decide +kernel⟩, Or.inl ⟨rfl, q2043⟩, by decide +kernel, by decide⟩
theorem mo_X7_make0 : MOk q_X7_make0 1 := ⟨by decide +kernel, ⟨by decide +kernel, by decide +kernel⟩, Or.inl ⟨rfl, q2047⟩, by decide +kernel, by decide⟩
theorem mo_X7_lay : MOk q_X7_lay 2 := ⟨by decide +kernel, ⟨by decide +kernel, by decide +kernel⟩, Or.inl ⟨rfl, q2051⟩, by decide +kernel, by decide⟩
theorem mo_X7_addends : MOk q_X7_addends 2 := ⟨by decide +kernel, ⟨by decide +kernel, by decide +kernel⟩, Or.inl ⟨rfl, q2055⟩, by decide +kernel, by decide⟩
theorem mo_X7_point : MOk q_X7_point 1 := ⟨by decide +kernel, ⟨by decide +kernel, by decide +kernel⟩, Or.inl ⟨rfl, q2059⟩, by decide +kernel, by decide⟩
theorem mo_X7_wants : MOk q_X7_wants 1 := ⟨by decide +kernel, ⟨by decide +kernel, by decide +kernel⟩, Or.inl ⟨rfl, q2063⟩, by decide +kernel, by decide⟩
theorem mo_X7_part : MOk q_X7_part 1 := ⟨by decide +kernel, ⟨by decide +kernel, by decide +kernel⟩, Or.inl ⟨rfl, q2067⟩, by decide +kernel, by decide⟩
theorem mo_X7_make : MOk q_X7_make 1 := ⟨by decide +kernel, ⟨by decide +kernel, by decide +kernel⟩, Or.inl ⟨rfl, q2071⟩, by decide +kernel, by decide⟩
theorem mo_X7_wanted : MOk q_X7_wanted 2 := ⟨by decide +kernel, ⟨by decide +kernel, by decide +kernel⟩, Or.inl ⟨rfl, q2075⟩, by decide +kernel, by decide⟩
theorem mo_X7_dues : MOk q_X7_dues 2 := ⟨by decide +kernel, ⟨by decide +kernel, by decide +kernel⟩, Or.inl ⟨rfl, q2079⟩, by decide +kernel, by decide⟩
theorem mo_X7_added : MOk q_X7_added 2 := ⟨by decide +kernel, ⟨by decide +kernel, by decide +kernel⟩, Or.inl ⟨rfl, q2083⟩, by decide +kernel, by decide⟩
theorem mo_X7_dueLine : MOk q_X7_dueLine 2 := ⟨by decide +kernel, ⟨by decide +kernel, by decide +kernel⟩, Or.inl ⟨rfl, q2087⟩, by decide +kernel, by decide⟩
theorem mo_X7_wantedAt : MOk q_X7_wantedAt 2 := ⟨by decide +kernel, ⟨by decide +kernel, by decide +kernel⟩, Or.inl ⟨rfl, q2091⟩, by decide +kernel, by decide⟩
theorem mo_X7_same : MOk q_X7_same 2 := ⟨by decide +kernel, ⟨by decide +kernel, by decide +kernel⟩, Or.inl ⟨rfl, q2095⟩, by decide +kernel, by decide⟩
theorem mo_X7_keep : MOk q_X7_keep 1 := ⟨by decide +kernel, ⟨by decide +kernel, by decide +kernel⟩, Or.inl ⟨rfl, q2099⟩, by decide +kernel, by decide⟩
theorem mo_X7_use : MOk q_X7_use 1 := ⟨by decide +kernel, ⟨by decide +kernel, by decide +kernel⟩, Or.inl ⟨rfl, q2103⟩, by decide +kernel, by decide⟩
theorem mo_X7_isThere : MOk q_X7_isThere 1 := ⟨by decide +kernel, ⟨by decide +kernel, by decide +kernel⟩, Or.inl ⟨rfl, q2107⟩, by decide +kernel, by decide⟩
theorem mo_X7_apart : MOk q_X7_apart 2 := ⟨by decide +kernel, ⟨by decide +kernel, by decide +kernel⟩, Or.inl ⟨rfl, q2111⟩, by decide +kernel, by decide⟩
theorem mo_X7_differ : MOk q_X7_differ 2 := ⟨by decide +kernel, ⟨by decide +kernel, by decide +kernel⟩, Or.inl ⟨rfl, q2115⟩, by decide +kernel, by decide⟩
theorem mo_X7_isOne : MOk q_X7_isOne 2 := ⟨by decide +kernel, ⟨by decide +kernel, by decide +kernel⟩, Or.inl ⟨rfl, q2119⟩, by decide +kernel, by decide⟩
theorem mo_X7_friday : MOk q_X7_friday 0 := ⟨by decide +kernel, ⟨by decide +kernel, by decide +kernel⟩, Or.inl ⟨rfl, q2123⟩, by decide +kernel, by decide⟩
theorem mo_X7_spell : MOk q_X7_spell 3 := ⟨by decide +kernel, ⟨by decide +kernel, by decide +kernel⟩, Or.inl ⟨rfl, q2127⟩, by decide +kernel, by decide⟩
theorem mo_X7_ends : MOk q_X7_ends 1 := ⟨by decide +kernel, ⟨by decide +kernel, by decide +kernel⟩, Or.inl ⟨rfl, q2131⟩, by decide +kernel, by decide⟩
theorem mo_X7_fridayAt : MOk q_X7_fridayAt 1 := ⟨by decide +kernel, ⟨by decide +kernel, by decide +kernel⟩, Or.inl ⟨rfl, q2135⟩, by decide +kernel, by decide⟩
theorem mo_X7_count : MOk q_X7_count 1 := ⟨by decide +kernel, ⟨by decide +kernel, by decide +kernel⟩, Or.inl ⟨rfl, q2139⟩, by decide +kernel, by decide⟩
theorem mo_X8_init : MOk q_X8_init 3 := ⟨by decide +kernel, ⟨by decide +kernel, by decide +kernel⟩, Or.inl ⟨rfl, q509⟩, by decide +kernel, by decide⟩
theorem mo_X8_go : MOk q_X8_go 0 := ⟨by decide +kernel, ⟨by decide +kernel, by decide +kernel⟩, Or.inl ⟨rfl, q569⟩, by decide +kernel, by decide⟩
theorem mo_X8_byteAt : MOk q_X8_byteAt 1 := ⟨by decide +kernel, ⟨by decide +kernel, by decide +kernel⟩, Or.inl ⟨rfl, q573⟩, by decide +kernel, by decide⟩
theorem mo_X8_isLetter : MOk q_X8_isLetter 1 := ⟨by decide +kernel, ⟨by decide +kernel, by decide +kernel⟩, Or.inl ⟨rfl, q576⟩, by decide +kernel, by decide⟩
theorem mo_X8_letters : MOk q_X8_letters 0 := ⟨by decide +kernel, ⟨by decide +kernel, by decide +kernel⟩, Or.inl ⟨rfl, q580⟩, by decide +kernel, by decide⟩
theorem mo_X8_isNumeral : MOk q_X8_isNumeral 1 := ⟨by decide +kernel, ⟨by decide +kernel, by decide +kernel⟩, Or.inl ⟨rfl, q755⟩, by decide +kernel, by decide⟩
theorem mo_X8_digits : MOk q_X8_digits 0 := ⟨by decide +kernel, ⟨by decide +kernel, by decide +kernel⟩, Or.inl ⟨rfl, q759⟩, by decide +kernel, by decide⟩
theorem mo_X8_need : MOk q_X8_need 2 := ⟨by decide +kernel, ⟨by decide +kernel, by decide +kernel⟩, Or.inl ⟨rfl, q783⟩, by decide +kernel, by decide⟩
theorem mo_X8_number : MOk q_X8_number 2 := ⟨by decide +kernel, ⟨by decide +kernel, by decide +kernel⟩, Or.inl ⟨rfl, q854⟩, by decide +kernel, by decide⟩
theorem mo_X8_sign : MOk q_X8_sign 1 := ⟨by decide +kernel, ⟨by decide +kernel, by decide +kernel⟩, Or.inl ⟨rfl, q863⟩, by decide +kernel, by decide⟩
theorem mo_X8_is : MOk q_X8_is 1 := ⟨by decide +kernel, ⟨by decide +kernel, by decide +kernel⟩, Or.inl ⟨rfl, q1064⟩, by decide +kernel, by decide⟩
theorem mo_X9_init : MOk q_X9_init 2 := ⟨by decide +kernel, ⟨by decide +kernel, by decide +kernel⟩, Or.inl ⟨rfl, q506⟩, by decide +kernel, by decide⟩
theorem mo_X9_read : MOk q_X9_read 0 := ⟨by decide +kernel, ⟨by decide +kernel, by decide +kernel⟩, Or.inl ⟨rfl, q563⟩, by decide +kernel, by decide⟩
theorem mo_X9_hub : MOk q_X9_hub 1 := ⟨by decide +kernel, ⟨by decide +kernel, by decide +kernel⟩, Or.inl ⟨rfl, q763⟩, by decide +kernel, by decide⟩
theorem mo_X9_sort : MOk q_X9_sort 0 := ⟨by decide +kernel, ⟨by decide +kernel, by decide +kernel⟩, Or.inl ⟨rfl, q767⟩, by decide +kernel, by decide⟩
theorem noH_nil {pc : Nat} : NoH [] pc := fun q h => (by cases h)
theorem noH_one {a b h ct pc : Nat} (w : ¬ (a ≤ pc ∧ pc < b)) : NoH [(a, b, h, ct)] pc := fun q hq => (by cases List.mem_singleton.mp hq; exact w)
theorem sw_tab {pc : Nat} {offs : Array Int} {ts : List Nat} {hi : Nat} (h : (List.range (hi + 1)).all (fun j => match offs[j]?, ts[j]? with | some o, some t => decide ((pc : Int) + o = (t : Int)) | _, _ => false) = true) : ∀ j, j < hi + 1 → ∃ (o : Int) (t : Nat), offs[j]? = some o ∧ ts[j]? = some t ∧ (pc : Int) + o = (t : Int) := by
  intro j hj
  have h1 := List.all_eq_true.mp h j (List.mem_range.mpr hj)
  cases ho : offs[j]? with
  | none => rw [ho] at h1; cases h1
  | some o =>
    cases ht : ts[j]? with
    | none => rw [ho, ht] at h1; cases h1
    | some t => rw [ho, ht] at h1; exact ⟨o, t, rfl, rfl, of_decide_eq_true h1⟩
theorem fo_J6_15_12 : FOk RJ6 15 12 0 := ⟨_, _, _, _, cls_J7, by decide, by decide, in_J7, Or.inl q599, Or.inl rfl, tyJ7_ok, nmJ7⟩
theorem ff_J6_12_0 : FFin RJ6 12 0 false := ⟨_, _, _, cls_J7, rfl, fun h => by cases h⟩
theorem pa_J6_15 : ∀ t ∈ [12], FOk RJ6 15 t 0 ∧ FFin RJ6 t 0 false ∧ isR (tyN t 0) = true := List.forall_mem_singleton.mpr ⟨fo_J6_15_12, ff_J6_12_0, rfl⟩
theorem fo_J6_22_12 : FOk RJ6 22 12 1 := ⟨_, _, _, _, cls_J7, by decide, by decide, in_J7, Or.inl q600, Or.inl rfl, tyJ7_ok, nmJ7⟩
theorem ff_J6_12_1 : FFin RJ6 12 1 false := ⟨_, _, _, cls_J7, rfl, fun h => by cases h⟩
theorem pa_J6_22 : ∀ t ∈ [12], FOk RJ6 22 t 1 ∧ FFin RJ6 t 1 false ∧ (tyN t 1 = .boolean ∨ tyN t 1 = .byte) := List.forall_mem_singleton.mpr ⟨fo_J6_22_12, ff_J6_12_1, Or.inr rfl⟩
theorem fo_J6_79_12 : FOk RJ6 79 12 3 := ⟨_, _, _, _, cls_J7, by decide, by decide, in_J7, Or.inl q602, Or.inl rfl, tyJ7_ok, nmJ7⟩
theorem ga_J6_79 : ∀ t ∈ [12], FOk RJ6 79 t 3 ∧ (t = 13 → 3 < 2) ∧ isI (tyN t 3) = true := List.forall_mem_singleton.mpr ⟨fo_J6_79_12, (fun h => absurd h (by decide)), rfl⟩
theorem vl_J6_100 : ∀ t ∈ [12], ∃ (C : String) (T : u_T) (N : Nat), cls[t]? = some (C, T, N) ∧ t < 50 ∧ VLk RJ6 100 C q_J6_ensureCapacityInternal := List.forall_mem_singleton.mpr ⟨_, _, _, cls_J7, by decide, Or.inr (Or.inr ⟨q619, (List.mem_filter.mpr ⟨q620, rfl⟩), q2143⟩)⟩
theorem vl_J6_83 : ∀ t ∈ [12], ∃ (C : String) (T : u_T) (N : Nat), cls[t]? = some (C, T, N) ∧ t < 50 ∧ VLk RJ6 83 C q_J6_isLatin1 := List.forall_mem_singleton.mpr ⟨_, _, _, cls_J7, by decide, Or.inl ⟨q639, q642⟩⟩
theorem ga_J6_15 : ∀ t ∈ [12], FOk RJ6 15 t 0 ∧ (t = 13 → 0 < 2) ∧ isR (tyN t 0) = true := List.forall_mem_singleton.mpr ⟨fo_J6_15_12, (fun h => by decide), rfl⟩
theorem ff_J6_12_3 : FFin RJ6 12 3 false := ⟨_, _, _, cls_J7, rfl, fun h => by cases h⟩
theorem pa_J6_79 : ∀ t ∈ [12], FOk RJ6 79 t 3 ∧ FFin RJ6 t 3 false ∧ tyN t 3 = .int := List.forall_mem_singleton.mpr ⟨fo_J6_79_12, ff_J6_12_3, rfl⟩
theorem ga_J6_22 : ∀ t ∈ [12], FOk RJ6 22 t 1 ∧ (t = 13 → 1 < 2) ∧ isI (tyN t 1) = true := List.forall_mem_singleton.mpr ⟨fo_J6_22_12, (fun h => by decide), rfl⟩
theorem vl_J6_32 : ∀ t ∈ [13], ∃ (C : String) (T : u_T) (N : Nat), cls[t]? = some (C, T, N) ∧ t < 50 ∧ VLk RJ6 32 C q_J8_length := List.forall_mem_singleton.mpr ⟨_, _, _, cls_J8, by decide, Or.inl ⟨q1107, q1109⟩⟩
theorem vl_J6_208 : ∀ t ∈ [12], ∃ (C : String) (T : u_T) (N : Nat), cls[t]? = some (C, T, N) ∧ t < 50 ∧ VLk RJ6 208 C q_J6_putStringAt := List.forall_mem_singleton.mpr ⟨_, _, _, cls_J7, by decide, Or.inr (Or.inr ⟨q1115, (List.mem_filter.mpr ⟨q1116, rfl⟩), q2156⟩)⟩
theorem vl_J6_397 : ∀ t ∈ [12], ∃ (C : String) (T : u_T) (N : Nat), cls[t]? = some (C, T, N) ∧ t < 50 ∧ VLk RJ6 397 C q_J6_inflateIfNeededFor := List.forall_mem_singleton.mpr ⟨_, _, _, cls_J7, by decide, Or.inr (Or.inr ⟨q1119, (List.mem_filter.mpr ⟨q1120, rfl⟩), q2157⟩)⟩
theorem vl_J6_399 : ∀ t ∈ [13], ∃ (C : String) (T : u_T) (N : Nat), cls[t]? = some (C, T, N) ∧ t < 50 ∧ VLk RJ6 399 C q_J8_getBytes := List.forall_mem_singleton.mpr ⟨_, _, _, cls_J8, by decide, Or.inl ⟨q1124, q1126⟩⟩
theorem vl_J6_40 : ∀ t ∈ [13], ∃ (C : String) (T : u_T) (N : Nat), cls[t]? = some (C, T, N) ∧ t < 50 ∧ VLk RJ6 40 C q_J8_coder := List.forall_mem_singleton.mpr ⟨_, _, _, cls_J8, by decide, Or.inl ⟨q1123, q1113⟩⟩
theorem dk_J8 : ∀ j, j < 4 → dOk (tyN 13 j) = true := by decide +kernel
theorem no_J7_18 : NOk RJ7 18 13 4 := ⟨_, _, cls_J8, by decide, in_J8, tyJ8_ok, dk_J8, q696, q697, q114⟩
theorem vl_J8_552 : ∀ t ∈ [12], ∃ (C : String) (T : u_T) (N : Nat), cls[t]? = some (C, T, N) ∧ t < 50 ∧ VLk RJ8 552 C q_J6_getValue := List.forall_mem_singleton.mpr ⟨_, _, _, cls_J7, by decide, Or.inl ⟨q705, q708⟩⟩
theorem vl_J8_549 : ∀ t ∈ [12], ∃ (C : String) (T : u_T) (N : Nat), cls[t]? = some (C, T, N) ∧ t < 50 ∧ VLk RJ8 549 C q_J7_length := List.forall_mem_singleton.mpr ⟨_, _, _, cls_J7, by decide, Or.inr (Or.inl ⟨⟨"java/lang/AbstractStringBuilder", "length", "()I"⟩, "java/lang/AbstractStringBuilder", q710, q712, (Or.inr ⟨q711, _, _, _, q717⟩), ⟨by decide, by decide⟩, q713, rfl⟩)⟩
theorem vl_J8_1047 : ∀ t ∈ [12], ∃ (C : String) (T : u_T) (N : Nat), cls[t]? = some (C, T, N) ∧ t < 50 ∧ VLk RJ8 1047 C q_J6_isLatin1 := List.forall_mem_singleton.mpr ⟨_, _, _, cls_J7, by decide, Or.inl ⟨q718, q642⟩⟩
theorem fo_J8_15_13 : FOk RJ8 15 13 1 := ⟨_, _, _, _, cls_J8, by decide, by decide, in_J8, Or.inl q743, Or.inl rfl, tyJ8_ok, nmJ8⟩
theorem ff_J8_13_1 : FFin RJ8 13 1 true := ⟨_, _, _, cls_J8, rfl, fun h => rfl⟩
theorem pa_J8_15 : ∀ t ∈ [13], FOk RJ8 15 t 1 ∧ FFin RJ8 t 1 true ∧ (tyN t 1 = .boolean ∨ tyN t 1 = .byte) := List.forall_mem_singleton.mpr ⟨fo_J8_15_13, ff_J8_13_1, Or.inr rfl⟩
theorem fo_J8_9_13 : FOk RJ8 9 13 0 := ⟨_, _, _, _, cls_J8, by decide, by decide, in_J8, Or.inl q742, Or.inl rfl, tyJ8_ok, nmJ8⟩
theorem ff_J8_13_0 : FFin RJ8 13 0 true := ⟨_, _, _, cls_J8, rfl, fun h => rfl⟩
theorem pa_J8_9 : ∀ t ∈ [13], FOk RJ8 9 t 0 ∧ FFin RJ8 t 0 true ∧ isR (tyN t 0) = true := List.forall_mem_singleton.mpr ⟨fo_J8_9_13, ff_J8_13_0, rfl⟩
theorem fo_J8_1048_12 : FOk RJ8 1048 12 2 := ⟨_, _, _, _, cls_J7, by decide, by decide, in_J7, Or.inl q601, Or.inl rfl, tyJ7_ok, nmJ7⟩
theorem ga_J8_1048 : ∀ t ∈ [12], FOk RJ8 1048 t 2 ∧ (t = 13 → 2 < 2) ∧ isI (tyN t 2) = true := List.forall_mem_singleton.mpr ⟨fo_J8_1048_12, (fun h => absurd h (by decide)), rfl⟩
theorem ga_J8_9 : ∀ t ∈ [13], FOk RJ8 9 t 0 ∧ (t = 13 → 0 < 2) ∧ isR (tyN t 0) = true := List.forall_mem_singleton.mpr ⟨fo_J8_9_13, (fun h => by decide), rfl⟩
theorem ga_J8_15 : ∀ t ∈ [13], FOk RJ8 15 t 1 ∧ (t = 13 → 1 < 2) ∧ isI (tyN t 1) = true := List.forall_mem_singleton.mpr ⟨fo_J8_15_13, (fun h => by decide), rfl⟩
theorem vl_J8_335 : ∀ t ∈ [13], ∃ (C : String) (T : u_T) (N : Nat), cls[t]? = some (C, T, N) ∧ t < 50 ∧ VLk RJ8 335 C q_J8_coder := List.forall_mem_singleton.mpr ⟨_, _, _, cls_J8, by decide, Or.inl ⟨q1111, q1113⟩⟩
theorem vl_J8_492 : ∀ t ∈ [13], ∃ (C : String) (T : u_T) (N : Nat), cls[t]? = some (C, T, N) ∧ t < 50 ∧ VLk RJ8 492 C q_J8_isLatin1 := List.forall_mem_singleton.mpr ⟨_, _, _, cls_J8, by decide, Or.inl ⟨q1135, q1137⟩⟩
theorem vl_X0_7 : ∀ t ∈ [0], ∃ (C : String) (T : u_T) (N : Nat), cls[t]? = some (C, T, N) ∧ t < 50 ∧ VLk RX0 7 C q_X1_column := List.forall_mem_singleton.mpr ⟨_, _, _, cls_X1, by decide, Or.inl ⟨q1383, q1385⟩⟩
theorem vl_X0_15 : ∀ t ∈ [0], ∃ (C : String) (T : u_T) (N : Nat), cls[t]? = some (C, T, N) ∧ t < 50 ∧ VLk RX0 15 C q_X1_bar := List.forall_mem_singleton.mpr ⟨_, _, _, cls_X1, by decide, Or.inl ⟨q1413, q1415⟩⟩
theorem vl_X0_19 : ∀ t ∈ [0], ∃ (C : String) (T : u_T) (N : Nat), cls[t]? = some (C, T, N) ∧ t < 50 ∧ VLk RX0 19 C q_X1_wheel := List.forall_mem_singleton.mpr ⟨_, _, _, cls_X1, by decide, Or.inl ⟨q1420, q1422⟩⟩
theorem vl_X0_23 : ∀ t ∈ [0], ∃ (C : String) (T : u_T) (N : Nat), cls[t]? = some (C, T, N) ∧ t < 50 ∧ VLk RX0 23 C q_X1_wantedAt := List.forall_mem_singleton.mpr ⟨_, _, _, cls_X1, by decide, Or.inl ⟨q1427, q1429⟩⟩
theorem fo_X1_13_0 : FOk RX1 13 0 0 := ⟨_, _, _, _, cls_X1, by decide, by decide, in_X1, Or.inl q335, Or.inl rfl, tyX1_ok, nmX1⟩
theorem ff_X1_0_0 : FFin RX1 0 0 true := ⟨_, _, _, cls_X1, rfl, fun h => rfl⟩
theorem pa_X1_13 : ∀ t ∈ [0], FOk RX1 13 t 0 ∧ FFin RX1 t 0 true ∧ isR (tyN t 0) = true := List.forall_mem_singleton.mpr ⟨fo_X1_13_0, ff_X1_0_0, rfl⟩
theorem fo_X1_19_0 : FOk RX1 19 0 3 := ⟨_, _, _, _, cls_X1, by decide, by decide, in_X1, Or.inl q338, Or.inl rfl, tyX1_ok, nmX1⟩
theorem ff_X1_0_3 : FFin RX1 0 3 true := ⟨_, _, _, cls_X1, rfl, fun h => rfl⟩
theorem pa_X1_19 : ∀ t ∈ [0], FOk RX1 19 t 3 ∧ FFin RX1 t 3 true ∧ isR (tyN t 3) = true := List.forall_mem_singleton.mpr ⟨fo_X1_19_0, ff_X1_0_3, rfl⟩
theorem dk_X2 : ∀ j, j < 3 → dOk (tyN 1 j) = true := by decide +kernel
theorem no_X1_23 : NOk RX1 23 1 3 := ⟨_, _, cls_X2, by decide, in_X2, tyX2_ok, dk_X2, q132, q133, q97⟩
theorem fo_X1_26_0 : FOk RX1 26 0 4 := ⟨_, _, _, _, cls_X1, by decide, by decide, in_X1, Or.inl q339, Or.inl rfl, tyX1_ok, nmX1⟩
theorem ff_X1_0_4 : FFin RX1 0 4 false := ⟨_, _, _, cls_X1, rfl, fun h => by cases h⟩
theorem pa_X1_26 : ∀ t ∈ [0], FOk RX1 26 t 4 ∧ FFin RX1 t 4 false ∧ isR (tyN t 4) = true := List.forall_mem_singleton.mpr ⟨fo_X1_26_0, ff_X1_0_4, rfl⟩
theorem dk_X3 : ∀ j, j < 10 → dOk (tyN 2 j) = true := by decide +kernel
theorem no_X1_30 : NOk RX1 30 2 10 := ⟨_, _, cls_X3, by decide, in_X3, tyX3_ok, dk_X3, q157, q158, q98⟩
theorem fo_X1_33_0 : FOk RX1 33 0 5 := ⟨_, _, _, _, cls_X1, by decide, by decide, in_X1, Or.inl q340, Or.inl rfl, tyX1_ok, nmX1⟩
theorem ff_X1_0_5 : FFin RX1 0 5 true := ⟨_, _, _, cls_X1, rfl, fun h => rfl⟩
theorem pa_X1_33 : ∀ t ∈ [0], FOk RX1 33 t 5 ∧ FFin RX1 t 5 true ∧ isR (tyN t 5) = true := List.forall_mem_singleton.mpr ⟨fo_X1_33_0, ff_X1_0_5, rfl⟩
theorem dk_X4 : ∀ j, j < 11 → dOk (tyN 3 j) = true := by decide +kernel
theorem no_X1_37 : NOk RX1 37 3 11 := ⟨_, _, cls_X4, by decide, in_X4, tyX4_ok, dk_X4, q194, q195, q99⟩
theorem fo_X1_40_0 : FOk RX1 40 0 6 := ⟨_, _, _, _, cls_X1, by decide, by decide, in_X1, Or.inl q341, Or.inl rfl, tyX1_ok, nmX1⟩
theorem ff_X1_0_6 : FFin RX1 0 6 true := ⟨_, _, _, cls_X1, rfl, fun h => rfl⟩
theorem pa_X1_40 : ∀ t ∈ [0], FOk RX1 40 t 6 ∧ FFin RX1 t 6 true ∧ isR (tyN t 6) = true := List.forall_mem_singleton.mpr ⟨fo_X1_40_0, ff_X1_0_6, rfl⟩
theorem fo_X1_44_0 : FOk RX1 44 0 7 := ⟨_, _, _, _, cls_X1, by decide, by decide, in_X1, Or.inl q342, Or.inl rfl, tyX1_ok, nmX1⟩
theorem ff_X1_0_7 : FFin RX1 0 7 true := ⟨_, _, _, cls_X1, rfl, fun h => rfl⟩
theorem pa_X1_44 : ∀ t ∈ [0], FOk RX1 44 t 7 ∧ FFin RX1 t 7 true ∧ isR (tyN t 7) = true := List.forall_mem_singleton.mpr ⟨fo_X1_44_0, ff_X1_0_7, rfl⟩
theorem fo_X1_47_0 : FOk RX1 47 0 8 := ⟨_, _, _, _, cls_X1, by decide, by decide, in_X1, Or.inl q343, Or.inl rfl, tyX1_ok, nmX1⟩
theorem ff_X1_0_8 : FFin RX1 0 8 true := ⟨_, _, _, cls_X1, rfl, fun h => rfl⟩
theorem pa_X1_47 : ∀ t ∈ [0], FOk RX1 47 t 8 ∧ FFin RX1 t 8 true ∧ isR (tyN t 8) = true := List.forall_mem_singleton.mpr ⟨fo_X1_47_0, ff_X1_0_8, rfl⟩
theorem fo_X1_50_0 : FOk RX1 50 0 10 := ⟨_, _, _, _, cls_X1, by decide, by decide, in_X1, Or.inl q345, Or.inl rfl, tyX1_ok, nmX1⟩
theorem ff_X1_0_10 : FFin RX1 0 10 true := ⟨_, _, _, cls_X1, rfl, fun h => rfl⟩
theorem pa_X1_50 : ∀ t ∈ [0], FOk RX1 50 t 10 ∧ FFin RX1 t 10 true ∧ isR (tyN t 10) = true := List.forall_mem_singleton.mpr ⟨fo_X1_50_0, ff_X1_0_10, rfl⟩
theorem dk_X5 : ∀ j, j < 10 → dOk (tyN 4 j) = true := by decide +kernel
theorem no_X1_54 : NOk RX1 54 4 10 := ⟨_, _, cls_X5, by decide, in_X5, tyX5_ok, dk_X5, q258, q259, q100⟩
theorem fo_X1_57_0 : FOk RX1 57 0 14 := ⟨_, _, _, _, cls_X1, by decide, by decide, in_X1, Or.inl q349, Or.inl rfl, tyX1_ok, nmX1⟩
theorem ff_X1_0_14 : FFin RX1 0 14 false := ⟨_, _, _, cls_X1, rfl, fun h => by cases h⟩
theorem pa_X1_57 : ∀ t ∈ [0], FOk RX1 57 t 14 ∧ FFin RX1 t 14 false ∧ isR (tyN t 14) = true := List.forall_mem_singleton.mpr ⟨fo_X1_57_0, ff_X1_0_14, rfl⟩
theorem fo_X1_61_0 : FOk RX1 61 0 15 := ⟨_, _, _, _, cls_X1, by decide, by decide, in_X1, Or.inl q350, Or.inl rfl, tyX1_ok, nmX1⟩
theorem ff_X1_0_15 : FFin RX1 0 15 true := ⟨_, _, _, cls_X1, rfl, fun h => rfl⟩
theorem pa_X1_61 : ∀ t ∈ [0], FOk RX1 61 t 15 ∧ FFin RX1 t 15 true ∧ isR (tyN t 15) = true := List.forall_mem_singleton.mpr ⟨fo_X1_61_0, ff_X1_0_15, rfl⟩
theorem fo_X1_64_0 : FOk RX1 64 0 16 := ⟨_, _, _, _, cls_X1, by decide, by decide, in_X1, Or.inl q351, Or.inl rfl, tyX1_ok, nmX1⟩
theorem ff_X1_0_16 : FFin RX1 0 16 true := ⟨_, _, _, cls_X1, rfl, fun h => rfl⟩
theorem pa_X1_64 : ∀ t ∈ [0], FOk RX1 64 t 16 ∧ FFin RX1 t 16 true ∧ isR (tyN t 16) = true := List.forall_mem_singleton.mpr ⟨fo_X1_64_0, ff_X1_0_16, rfl⟩
theorem fo_X1_67_0 : FOk RX1 67 0 17 := ⟨_, _, _, _, cls_X1, by decide, by decide, in_X1, Or.inl q352, Or.inl rfl, tyX1_ok, nmX1⟩
theorem ff_X1_0_17 : FFin RX1 0 17 true := ⟨_, _, _, cls_X1, rfl, fun h => rfl⟩
theorem pa_X1_67 : ∀ t ∈ [0], FOk RX1 67 t 17 ∧ FFin RX1 t 17 true ∧ isR (tyN t 17) = true := List.forall_mem_singleton.mpr ⟨fo_X1_67_0, ff_X1_0_17, rfl⟩
theorem fo_X1_71_0 : FOk RX1 71 0 19 := ⟨_, _, _, _, cls_X1, by decide, by decide, in_X1, Or.inl q354, Or.inl rfl, tyX1_ok, nmX1⟩
theorem ff_X1_0_19 : FFin RX1 0 19 true := ⟨_, _, _, cls_X1, rfl, fun h => rfl⟩
theorem pa_X1_71 : ∀ t ∈ [0], FOk RX1 71 t 19 ∧ FFin RX1 t 19 true ∧ isR (tyN t 19) = true := List.forall_mem_singleton.mpr ⟨fo_X1_71_0, ff_X1_0_19, rfl⟩
theorem fo_X1_74_0 : FOk RX1 74 0 20 := ⟨_, _, _, _, cls_X1, by decide, by decide, in_X1, Or.inl q355, Or.inl rfl, tyX1_ok, nmX1⟩
theorem ff_X1_0_20 : FFin RX1 0 20 false := ⟨_, _, _, cls_X1, rfl, fun h => by cases h⟩
theorem pa_X1_74 : ∀ t ∈ [0], FOk RX1 74 t 20 ∧ FFin RX1 t 20 false ∧ tyN t 20 = .int := List.forall_mem_singleton.mpr ⟨fo_X1_74_0, ff_X1_0_20, rfl⟩
theorem fo_X1_78_0 : FOk RX1 78 0 22 := ⟨_, _, _, _, cls_X1, by decide, by decide, in_X1, Or.inl q357, Or.inl rfl, tyX1_ok, nmX1⟩
theorem ff_X1_0_22 : FFin RX1 0 22 true := ⟨_, _, _, cls_X1, rfl, fun h => rfl⟩
theorem pa_X1_78 : ∀ t ∈ [0], FOk RX1 78 t 22 ∧ FFin RX1 t 22 true ∧ isR (tyN t 22) = true := List.forall_mem_singleton.mpr ⟨fo_X1_78_0, ff_X1_0_22, rfl⟩
theorem fo_X1_81_0 : FOk RX1 81 0 24 := ⟨_, _, _, _, cls_X1, by decide, by decide, in_X1, Or.inl q359, Or.inl rfl, tyX1_ok, nmX1⟩
theorem ff_X1_0_24 : FFin RX1 0 24 true := ⟨_, _, _, cls_X1, rfl, fun h => rfl⟩
theorem pa_X1_81 : ∀ t ∈ [0], FOk RX1 81 t 24 ∧ FFin RX1 t 24 true ∧ isR (tyN t 24) = true := List.forall_mem_singleton.mpr ⟨fo_X1_81_0, ff_X1_0_24, rfl⟩
theorem fo_X1_84_0 : FOk RX1 84 0 25 := ⟨_, _, _, _, cls_X1, by decide, by decide, in_X1, Or.inl q360, Or.inl rfl, tyX1_ok, nmX1⟩
theorem ff_X1_0_25 : FFin RX1 0 25 true := ⟨_, _, _, cls_X1, rfl, fun h => rfl⟩
theorem pa_X1_84 : ∀ t ∈ [0], FOk RX1 84 t 25 ∧ FFin RX1 t 25 true ∧ isR (tyN t 25) = true := List.forall_mem_singleton.mpr ⟨fo_X1_84_0, ff_X1_0_25, rfl⟩
theorem fo_X1_87_0 : FOk RX1 87 0 26 := ⟨_, _, _, _, cls_X1, by decide, by decide, in_X1, Or.inl q361, Or.inl rfl, tyX1_ok, nmX1⟩
theorem ff_X1_0_26 : FFin RX1 0 26 true := ⟨_, _, _, cls_X1, rfl, fun h => rfl⟩
theorem pa_X1_87 : ∀ t ∈ [0], FOk RX1 87 t 26 ∧ FFin RX1 t 26 true ∧ isR (tyN t 26) = true := List.forall_mem_singleton.mpr ⟨fo_X1_87_0, ff_X1_0_26, rfl⟩
theorem fo_X1_90_0 : FOk RX1 90 0 28 := ⟨_, _, _, _, cls_X1, by decide, by decide, in_X1, Or.inl q363, Or.inl rfl, tyX1_ok, nmX1⟩
theorem ff_X1_0_28 : FFin RX1 0 28 true := ⟨_, _, _, cls_X1, rfl, fun h => rfl⟩
theorem pa_X1_90 : ∀ t ∈ [0], FOk RX1 90 t 28 ∧ FFin RX1 t 28 true ∧ isR (tyN t 28) = true := List.forall_mem_singleton.mpr ⟨fo_X1_90_0, ff_X1_0_28, rfl⟩
theorem fo_X1_93_0 : FOk RX1 93 0 29 := ⟨_, _, _, _, cls_X1, by decide, by decide, in_X1, Or.inl q364, Or.inl rfl, tyX1_ok, nmX1⟩
theorem ff_X1_0_29 : FFin RX1 0 29 true := ⟨_, _, _, cls_X1, rfl, fun h => rfl⟩
theorem pa_X1_93 : ∀ t ∈ [0], FOk RX1 93 t 29 ∧ FFin RX1 t 29 true ∧ isR (tyN t 29) = true := List.forall_mem_singleton.mpr ⟨fo_X1_93_0, ff_X1_0_29, rfl⟩
theorem fo_X1_97_0 : FOk RX1 97 0 30 := ⟨_, _, _, _, cls_X1, by decide, by decide, in_X1, Or.inl q365, Or.inl rfl, tyX1_ok, nmX1⟩
theorem ff_X1_0_30 : FFin RX1 0 30 true := ⟨_, _, _, cls_X1, rfl, fun h => rfl⟩
theorem pa_X1_97 : ∀ t ∈ [0], FOk RX1 97 t 30 ∧ FFin RX1 t 30 true ∧ isR (tyN t 30) = true := List.forall_mem_singleton.mpr ⟨fo_X1_97_0, ff_X1_0_30, rfl⟩
theorem fo_X1_100_0 : FOk RX1 100 0 31 := ⟨_, _, _, _, cls_X1, by decide, by decide, in_X1, Or.inl q366, Or.inl rfl, tyX1_ok, nmX1⟩
theorem ff_X1_0_31 : FFin RX1 0 31 true := ⟨_, _, _, cls_X1, rfl, fun h => rfl⟩
theorem pa_X1_100 : ∀ t ∈ [0], FOk RX1 100 t 31 ∧ FFin RX1 t 31 true ∧ isR (tyN t 31) = true := List.forall_mem_singleton.mpr ⟨fo_X1_100_0, ff_X1_0_31, rfl⟩
theorem fo_X1_103_0 : FOk RX1 103 0 32 := ⟨_, _, _, _, cls_X1, by decide, by decide, in_X1, Or.inl q367, Or.inl rfl, tyX1_ok, nmX1⟩
theorem ff_X1_0_32 : FFin RX1 0 32 true := ⟨_, _, _, cls_X1, rfl, fun h => rfl⟩
theorem pa_X1_103 : ∀ t ∈ [0], FOk RX1 103 t 32 ∧ FFin RX1 t 32 true ∧ isR (tyN t 32) = true := List.forall_mem_singleton.mpr ⟨fo_X1_103_0, ff_X1_0_32, rfl⟩
theorem fo_X1_108_0 : FOk RX1 108 0 33 := ⟨_, _, _, _, cls_X1, by decide, by decide, in_X1, Or.inl q368, Or.inl rfl, tyX1_ok, nmX1⟩
theorem ff_X1_0_33 : FFin RX1 0 33 true := ⟨_, _, _, cls_X1, rfl, fun h => rfl⟩
theorem pa_X1_108 : ∀ t ∈ [0], FOk RX1 108 t 33 ∧ FFin RX1 t 33 true ∧ isR (tyN t 33) = true := List.forall_mem_singleton.mpr ⟨fo_X1_108_0, ff_X1_0_33, rfl⟩
theorem ga_X1_19 : ∀ t ∈ [0], FOk RX1 19 t 3 ∧ (t = 13 → 3 < 2) ∧ isR (tyN t 3) = true := List.forall_mem_singleton.mpr ⟨fo_X1_19_0, (fun h => absurd h (by decide)), rfl⟩
theorem dk_X6 : ∀ j, j < 2 → dOk (tyN 5 j) = true := by decide +kernel
theorem no_X1_17 : NOk RX1 17 5 2 := ⟨_, _, cls_X6, by decide, in_X6, tyX6_ok, dk_X6, q130, q320, q101⟩
theorem fo_X1_112_0 : FOk RX1 112 0 1 := ⟨_, _, _, _, cls_X1, by decide, by decide, in_X1, Or.inl q336, Or.inl rfl, tyX1_ok, nmX1⟩
theorem ga_X1_112 : ∀ t ∈ [0], FOk RX1 112 t 1 ∧ (t = 13 → 1 < 2) ∧ isI (tyN t 1) = true := List.forall_mem_singleton.mpr ⟨fo_X1_112_0, (fun h => by decide), rfl⟩
theorem vl_X1_115 : ∀ t ∈ [0], ∃ (C : String) (T : u_T) (N : Nat), cls[t]? = some (C, T, N) ∧ t < 50 ∧ VLk RX1 115 C q_X1_come := List.forall_mem_singleton.mpr ⟨_, _, _, cls_X1, by decide, Or.inl ⟨q448, qs0⟩⟩
theorem ga_X1_13 : ∀ t ∈ [0], FOk RX1 13 t 0 ∧ (t = 13 → 0 < 2) ∧ isR (tyN t 0) = true := List.forall_mem_singleton.mpr ⟨fo_X1_13_0, (fun h => by decide), rfl⟩
theorem ff_X1_0_1 : FFin RX1 0 1 false := ⟨_, _, _, cls_X1, rfl, fun h => by cases h⟩
theorem pa_X1_112 : ∀ t ∈ [0], FOk RX1 112 t 1 ∧ FFin RX1 t 1 false ∧ tyN t 1 = .int := List.forall_mem_singleton.mpr ⟨fo_X1_112_0, ff_X1_0_1, rfl⟩
theorem vl_X1_119 : ∀ t ∈ [0], ∃ (C : String) (T : u_T) (N : Nat), cls[t]? = some (C, T, N) ∧ t < 50 ∧ VLk RX1 119 C q_X1_take := List.forall_mem_singleton.mpr ⟨_, _, _, cls_X1, by decide, Or.inl ⟨q460, qs1⟩⟩
theorem fo_X1_127_5 : FOk RX1 127 5 1 := ⟨_, _, _, _, cls_X6, by decide, by decide, in_X6, Or.inr ⟨_, (List.mem_filter.mpr ⟨q328, rfl⟩)⟩, Or.inl rfl, tyX6_ok, nmX6⟩
theorem ga_X1_127 : ∀ t ∈ [5], FOk RX1 127 t 1 ∧ (t = 13 → 1 < 2) ∧ isI (tyN t 1) = true := List.forall_mem_singleton.mpr ⟨fo_X1_127_5, (fun h => by decide), rfl⟩
theorem fo_X1_133_5 : FOk RX1 133 5 0 := ⟨_, _, _, _, cls_X6, by decide, by decide, in_X6, Or.inr ⟨_, (List.mem_filter.mpr ⟨q327, rfl⟩)⟩, Or.inl rfl, tyX6_ok, nmX6⟩
theorem ga_X1_133 : ∀ t ∈ [5], FOk RX1 133 t 0 ∧ (t = 13 → 0 < 2) ∧ isR (tyN t 0) = true := List.forall_mem_singleton.mpr ⟨fo_X1_133_5, (fun h => by decide), rfl⟩
theorem ff_X1_5_1 : FFin RX1 5 1 false := ⟨_, _, _, cls_X6, rfl, fun h => by cases h⟩
theorem pa_X1_127 : ∀ t ∈ [5], FOk RX1 127 t 1 ∧ FFin RX1 t 1 false ∧ tyN t 1 = .int := List.forall_mem_singleton.mpr ⟨fo_X1_127_5, ff_X1_5_1, rfl⟩
theorem fo_X1_150_0 : FOk RX1 150 0 2 := ⟨_, _, _, _, cls_X1, by decide, by decide, in_X1, Or.inl q337, Or.inl rfl, tyX1_ok, nmX1⟩
theorem ff_X1_0_2 : FFin RX1 0 2 false := ⟨_, _, _, cls_X1, rfl, fun h => by cases h⟩
theorem pa_X1_150 : ∀ t ∈ [0], FOk RX1 150 t 2 ∧ FFin RX1 t 2 false ∧ tyN t 2 = .int := List.forall_mem_singleton.mpr ⟨fo_X1_150_0, ff_X1_0_2, rfl⟩
theorem dk_X9 : ∀ j, j < 11 → dOk (tyN 7 j) = true := by decide +kernel
theorem no_X1_153 : NOk RX1 153 7 11 := ⟨_, _, cls_X9, by decide, in_X9, tyX9_ok, dk_X9, q502, q503, q111⟩
theorem vl_X1_158 : ∀ t ∈ [7], ∃ (C : String) (T : u_T) (N : Nat), cls[t]? = some (C, T, N) ∧ t < 50 ∧ VLk RX1 158 C q_X9_read := List.forall_mem_singleton.mpr ⟨_, _, _, cls_X9, by decide, Or.inl ⟨q560, q562⟩⟩
theorem ga_X1_26 : ∀ t ∈ [0], FOk RX1 26 t 4 ∧ (t = 13 → 4 < 2) ∧ isR (tyN t 4) = true := List.forall_mem_singleton.mpr ⟨fo_X1_26_0, (fun h => absurd h (by decide)), rfl⟩
theorem fo_X1_162_1 : FOk RX1 162 1 2 := ⟨_, _, _, _, cls_X2, by decide, by decide, in_X2, Or.inr ⟨_, (List.mem_filter.mpr ⟨q147, rfl⟩)⟩, Or.inl rfl, tyX2_ok, nmX2⟩
theorem ga_X1_162 : ∀ t ∈ [1], FOk RX1 162 t 2 ∧ (t = 13 → 2 < 2) ∧ isI (tyN t 2) = true := List.forall_mem_singleton.mpr ⟨fo_X1_162_1, (fun h => absurd h (by decide)), rfl⟩
theorem fo_X1_167_8 : FOk RX1 167 8 6 := ⟨_, _, _, _, cls_X10, by decide, by decide, in_X10, Or.inr ⟨_, (List.mem_filter.mpr ⟨q830, rfl⟩)⟩, Or.inl rfl, tyX10_ok, nmX10⟩
theorem ga_X1_167 : ∀ t ∈ [8], FOk RX1 167 t 6 ∧ (t = 13 → 6 < 2) ∧ isI (tyN t 6) = true := List.forall_mem_singleton.mpr ⟨fo_X1_167_8, (fun h => absurd h (by decide)), rfl⟩
theorem fo_X1_170_8 : FOk RX1 170 8 7 := ⟨_, _, _, _, cls_X10, by decide, by decide, in_X10, Or.inr ⟨_, (List.mem_filter.mpr ⟨q832, rfl⟩)⟩, Or.inl rfl, tyX10_ok, nmX10⟩
theorem ga_X1_170 : ∀ t ∈ [8], FOk RX1 170 t 7 ∧ (t = 13 → 7 < 2) ∧ isI (tyN t 7) = true := List.forall_mem_singleton.mpr ⟨fo_X1_170_8, (fun h => absurd h (by decide)), rfl⟩
theorem ga_X1_150 : ∀ t ∈ [0], FOk RX1 150 t 2 ∧ (t = 13 → 2 < 2) ∧ isI (tyN t 2) = true := List.forall_mem_singleton.mpr ⟨fo_X1_150_0, (fun h => absurd h (by decide)), rfl⟩
theorem ga_X1_33 : ∀ t ∈ [0], FOk RX1 33 t 5 ∧ (t = 13 → 5 < 2) ∧ isR (tyN t 5) = true := List.forall_mem_singleton.mpr ⟨fo_X1_33_0, (fun h => absurd h (by decide)), rfl⟩
theorem ga_X1_40 : ∀ t ∈ [0], FOk RX1 40 t 6 ∧ (t = 13 → 6 < 2) ∧ isR (tyN t 6) = true := List.forall_mem_singleton.mpr ⟨fo_X1_40_0, (fun h => absurd h (by decide)), rfl⟩
theorem vl_X1_173 : ∀ t ∈ [2], ∃ (C : String) (T : u_T) (N : Nat), cls[t]? = some (C, T, N) ∧ t < 50 ∧ VLk RX1 173 C q_X3_run := List.forall_mem_singleton.mpr ⟨_, _, _, cls_X3, by decide, Or.inl ⟨q881, q883⟩⟩
theorem fo_X1_177_0 : FOk RX1 177 0 9 := ⟨_, _, _, _, cls_X1, by decide, by decide, in_X1, Or.inl q344, Or.inl rfl, tyX1_ok, nmX1⟩
theorem ff_X1_0_9 : FFin RX1 0 9 false := ⟨_, _, _, cls_X1, rfl, fun h => by cases h⟩
theorem pa_X1_177 : ∀ t ∈ [0], FOk RX1 177 t 9 ∧ FFin RX1 t 9 false ∧ (tyN t 9 = .boolean ∨ tyN t 9 = .byte) := List.forall_mem_singleton.mpr ⟨fo_X1_177_0, ff_X1_0_9, Or.inl rfl⟩
theorem fo_X1_181_3 : FOk RX1 181 3 4 := ⟨_, _, _, _, cls_X4, by decide, by decide, in_X4, Or.inr ⟨_, (List.mem_filter.mpr ⟨q216, rfl⟩)⟩, Or.inl rfl, tyX4_ok, nmX4⟩
theorem ga_X1_181 : ∀ t ∈ [3], FOk RX1 181 t 4 ∧ (t = 13 → 4 < 2) ∧ isI (tyN t 4) = true := List.forall_mem_singleton.mpr ⟨fo_X1_181_3, (fun h => absurd h (by decide)), rfl⟩
theorem fo_X1_184_3 : FOk RX1 184 3 9 := ⟨_, _, _, _, cls_X4, by decide, by decide, in_X4, Or.inr ⟨_, (List.mem_filter.mpr ⟨q231, rfl⟩)⟩, Or.inl rfl, tyX4_ok, nmX4⟩
theorem ga_X1_184 : ∀ t ∈ [3], FOk RX1 184 t 9 ∧ (t = 13 → 9 < 2) ∧ isR (tyN t 9) = true := List.forall_mem_singleton.mpr ⟨fo_X1_184_3, (fun h => absurd h (by decide)), rfl⟩
theorem fo_X1_187_3 : FOk RX1 187 3 0 := ⟨_, _, _, _, cls_X4, by decide, by decide, in_X4, Or.inr ⟨_, (List.mem_filter.mpr ⟨q204, rfl⟩)⟩, Or.inl rfl, tyX4_ok, nmX4⟩
theorem ga_X1_187 : ∀ t ∈ [3], FOk RX1 187 t 0 ∧ (t = 13 → 0 < 2) ∧ isI (tyN t 0) = true := List.forall_mem_singleton.mpr ⟨fo_X1_187_3, (fun h => by decide), rfl⟩
theorem ga_X1_177 : ∀ t ∈ [0], FOk RX1 177 t 9 ∧ (t = 13 → 9 < 2) ∧ isI (tyN t 9) = true := List.forall_mem_singleton.mpr ⟨fo_X1_177_0, (fun h => absurd h (by decide)), rfl⟩
theorem fo_X1_190_3 : FOk RX1 190 3 1 := ⟨_, _, _, _, cls_X4, by decide, by decide, in_X4, Or.inr ⟨_, (List.mem_filter.mpr ⟨q207, rfl⟩)⟩, Or.inl rfl, tyX4_ok, nmX4⟩
theorem ga_X1_190 : ∀ t ∈ [3], FOk RX1 190 t 1 ∧ (t = 13 → 1 < 2) ∧ isI (tyN t 1) = true := List.forall_mem_singleton.mpr ⟨fo_X1_190_3, (fun h => by decide), rfl⟩
theorem fo_X1_193_3 : FOk RX1 193 3 2 := ⟨_, _, _, _, cls_X4, by decide, by decide, in_X4, Or.inr ⟨_, (List.mem_filter.mpr ⟨q210, rfl⟩)⟩, Or.inl rfl, tyX4_ok, nmX4⟩
theorem ga_X1_193 : ∀ t ∈ [3], FOk RX1 193 t 2 ∧ (t = 13 → 2 < 2) ∧ isI (tyN t 2) = true := List.forall_mem_singleton.mpr ⟨fo_X1_193_3, (fun h => absurd h (by decide)), rfl⟩
theorem fo_X1_196_3 : FOk RX1 196 3 3 := ⟨_, _, _, _, cls_X4, by decide, by decide, in_X4, Or.inr ⟨_, (List.mem_filter.mpr ⟨q213, rfl⟩)⟩, Or.inl rfl, tyX4_ok, nmX4⟩
theorem ga_X1_196 : ∀ t ∈ [3], FOk RX1 196 t 3 ∧ (t = 13 → 3 < 2) ∧ isI (tyN t 3) = true := List.forall_mem_singleton.mpr ⟨fo_X1_196_3, (fun h => absurd h (by decide)), rfl⟩
theorem fo_X1_199_3 : FOk RX1 199 3 5 := ⟨_, _, _, _, cls_X4, by decide, by decide, in_X4, Or.inr ⟨_, (List.mem_filter.mpr ⟨q219, rfl⟩)⟩, Or.inl rfl, tyX4_ok, nmX4⟩
theorem ga_X1_199 : ∀ t ∈ [3], FOk RX1 199 t 5 ∧ (t = 13 → 5 < 2) ∧ isI (tyN t 5) = true := List.forall_mem_singleton.mpr ⟨fo_X1_199_3, (fun h => absurd h (by decide)), rfl⟩
theorem fo_X1_202_3 : FOk RX1 202 3 6 := ⟨_, _, _, _, cls_X4, by decide, by decide, in_X4, Or.inr ⟨_, (List.mem_filter.mpr ⟨q222, rfl⟩)⟩, Or.inl rfl, tyX4_ok, nmX4⟩
theorem ga_X1_202 : ∀ t ∈ [3], FOk RX1 202 t 6 ∧ (t = 13 → 6 < 2) ∧ isI (tyN t 6) = true := List.forall_mem_singleton.mpr ⟨fo_X1_202_3, (fun h => absurd h (by decide)), rfl⟩
theorem fo_X1_205_3 : FOk RX1 205 3 7 := ⟨_, _, _, _, cls_X4, by decide, by decide, in_X4, Or.inr ⟨_, (List.mem_filter.mpr ⟨q225, rfl⟩)⟩, Or.inl rfl, tyX4_ok, nmX4⟩
theorem ga_X1_205 : ∀ t ∈ [3], FOk RX1 205 t 7 ∧ (t = 13 → 7 < 2) ∧ isI (tyN t 7) = true := List.forall_mem_singleton.mpr ⟨fo_X1_205_3, (fun h => absurd h (by decide)), rfl⟩
theorem ga_X1_44 : ∀ t ∈ [0], FOk RX1 44 t 7 ∧ (t = 13 → 7 < 2) ∧ isR (tyN t 7) = true := List.forall_mem_singleton.mpr ⟨fo_X1_44_0, (fun h => absurd h (by decide)), rfl⟩
theorem vl_X1_225 : ∀ t ∈ [0], ∃ (C : String) (T : u_T) (N : Nat), cls[t]? = some (C, T, N) ∧ t < 50 ∧ VLk RX1 225 C q_X1_runWithout := List.forall_mem_singleton.mpr ⟨_, _, _, cls_X1, by decide, Or.inl ⟨q972, qs19⟩⟩
theorem fo_X1_222_0 : FOk RX1 222 0 11 := ⟨_, _, _, _, cls_X1, by decide, by decide, in_X1, Or.inl q346, Or.inl rfl, tyX1_ok, nmX1⟩
theorem ff_X1_0_11 : FFin RX1 0 11 false := ⟨_, _, _, cls_X1, rfl, fun h => by cases h⟩
theorem pa_X1_222 : ∀ t ∈ [0], FOk RX1 222 t 11 ∧ FFin RX1 t 11 false ∧ tyN t 11 = .int := List.forall_mem_singleton.mpr ⟨fo_X1_222_0, ff_X1_0_11, rfl⟩
theorem ga_X1_47 : ∀ t ∈ [0], FOk RX1 47 t 8 ∧ (t = 13 → 8 < 2) ∧ isR (tyN t 8) = true := List.forall_mem_singleton.mpr ⟨fo_X1_47_0, (fun h => absurd h (by decide)), rfl⟩
theorem vl_X1_229 : ∀ t ∈ [3], ∃ (C : String) (T : u_T) (N : Nat), cls[t]? = some (C, T, N) ∧ t < 50 ∧ VLk RX1 229 C q_X4_isLike := List.forall_mem_singleton.mpr ⟨_, _, _, cls_X4, by decide, Or.inl ⟨q976, q978⟩⟩
theorem vl_X1_233 : ∀ t ∈ [0], ∃ (C : String) (T : u_T) (N : Nat), cls[t]? = some (C, T, N) ∧ t < 50 ∧ VLk RX1 233 C q_X1_find := List.forall_mem_singleton.mpr ⟨_, _, _, cls_X1, by decide, Or.inl ⟨q987, qs20⟩⟩
theorem ga_X1_222 : ∀ t ∈ [0], FOk RX1 222 t 11 ∧ (t = 13 → 11 < 2) ∧ isI (tyN t 11) = true := List.forall_mem_singleton.mpr ⟨fo_X1_222_0, (fun h => absurd h (by decide)), rfl⟩
theorem ga_X1_50 : ∀ t ∈ [0], FOk RX1 50 t 10 ∧ (t = 13 → 10 < 2) ∧ isR (tyN t 10) = true := List.forall_mem_singleton.mpr ⟨fo_X1_50_0, (fun h => absurd h (by decide)), rfl⟩
theorem vl_X1_239 : ∀ t ∈ [0], ∃ (C : String) (T : u_T) (N : Nat), cls[t]? = some (C, T, N) ∧ t < 50 ∧ VLk RX1 239 C q_X1_areLines := List.forall_mem_singleton.mpr ⟨_, _, _, cls_X1, by decide, Or.inl ⟨q995, qs21⟩⟩
theorem vl_X1_242 : ∀ t ∈ [0], ∃ (C : String) (T : u_T) (N : Nat), cls[t]? = some (C, T, N) ∧ t < 50 ∧ VLk RX1 242 C q_X1_told := List.forall_mem_singleton.mpr ⟨_, _, _, cls_X1, by decide, Or.inl ⟨q999, qs22⟩⟩
theorem vl_X1_245 : ∀ t ∈ [3], ∃ (C : String) (T : u_T) (N : Nat), cls[t]? = some (C, T, N) ∧ t < 50 ∧ VLk RX1 245 C q_X4_printsLike := List.forall_mem_singleton.mpr ⟨_, _, _, cls_X4, by decide, Or.inl ⟨q1004, q982⟩⟩
theorem vl_X1_236 : ∀ t ∈ [3], ∃ (C : String) (T : u_T) (N : Nat), cls[t]? = some (C, T, N) ∧ t < 50 ∧ VLk RX1 236 C q_X4_begin := List.forall_mem_singleton.mpr ⟨_, _, _, cls_X4, by decide, Or.inl ⟨q1003, q887⟩⟩
theorem ff_X1_3_3 : FFin RX1 3 3 false := ⟨_, _, _, cls_X4, rfl, fun h => by cases h⟩
theorem pa_X1_196 : ∀ t ∈ [3], FOk RX1 196 t 3 ∧ FFin RX1 t 3 false ∧ tyN t 3 = .int := List.forall_mem_singleton.mpr ⟨fo_X1_196_3, ff_X1_3_3, rfl⟩
theorem fo_X1_208_3 : FOk RX1 208 3 8 := ⟨_, _, _, _, cls_X4, by decide, by decide, in_X4, Or.inr ⟨_, (List.mem_filter.mpr ⟨q228, rfl⟩)⟩, Or.inl rfl, tyX4_ok, nmX4⟩
theorem ga_X1_208 : ∀ t ∈ [3], FOk RX1 208 t 8 ∧ (t = 13 → 8 < 2) ∧ isR (tyN t 8) = true := List.forall_mem_singleton.mpr ⟨fo_X1_208_3, (fun h => absurd h (by decide)), rfl⟩
theorem fo_X1_254_0 : FOk RX1 254 0 12 := ⟨_, _, _, _, cls_X1, by decide, by decide, in_X1, Or.inl q347, Or.inl rfl, tyX1_ok, nmX1⟩
theorem ff_X1_0_12 : FFin RX1 0 12 false := ⟨_, _, _, cls_X1, rfl, fun h => by cases h⟩
theorem pa_X1_254 : ∀ t ∈ [0], FOk RX1 254 t 12 ∧ FFin RX1 t 12 false ∧ tyN t 12 = .int := List.forall_mem_singleton.mpr ⟨fo_X1_254_0, ff_X1_0_12, rfl⟩
theorem fo_X1_261_0 : FOk RX1 261 0 13 := ⟨_, _, _, _, cls_X1, by decide, by decide, in_X1, Or.inl q348, Or.inl rfl, tyX1_ok, nmX1⟩
theorem ff_X1_0_13 : FFin RX1 0 13 false := ⟨_, _, _, cls_X1, rfl, fun h => by cases h⟩
theorem pa_X1_261 : ∀ t ∈ [0], FOk RX1 261 t 13 ∧ FFin RX1 t 13 false ∧ tyN t 13 = .int := List.forall_mem_singleton.mpr ⟨fo_X1_261_0, ff_X1_0_13, rfl⟩
theorem ga_X1_254 : ∀ t ∈ [0], FOk RX1 254 t 12 ∧ (t = 13 → 12 < 2) ∧ isI (tyN t 12) = true := List.forall_mem_singleton.mpr ⟨fo_X1_254_0, (fun h => absurd h (by decide)), rfl⟩
theorem ga_X1_261 : ∀ t ∈ [0], FOk RX1 261 t 13 ∧ (t = 13 → 13 < 2) ∧ isI (tyN t 13) = true := List.forall_mem_singleton.mpr ⟨fo_X1_261_0, (fun h => absurd h (by decide)), rfl⟩
theorem dk_X11 : ∀ j, j < 10 → dOk (tyN 9 j) = true := by decide +kernel
theorem no_X1_264 : NOk RX1 264 9 10 := ⟨_, _, cls_X11, by decide, in_X11, tyX11_ok, dk_X11, q1030, q1031, q120⟩
theorem vl_X1_267 : ∀ t ∈ [9], ∃ (C : String) (T : u_T) (N : Nat), cls[t]? = some (C, T, N) ∧ t < 50 ∧ VLk RX1 267 C q_X11_read := List.forall_mem_singleton.mpr ⟨_, _, _, cls_X11, by decide, Or.inl ⟨q1051, q1053⟩⟩
theorem vl_X1_270 : ∀ t ∈ [0], ∃ (C : String) (T : u_T) (N : Nat), cls[t]? = some (C, T, N) ∧ t < 50 ∧ VLk RX1 270 C q_X1_part := List.forall_mem_singleton.mpr ⟨_, _, _, cls_X1, by decide, Or.inl ⟨q1179, qs27⟩⟩
theorem ga_X1_57 : ∀ t ∈ [0], FOk RX1 57 t 14 ∧ (t = 13 → 14 < 2) ∧ isR (tyN t 14) = true := List.forall_mem_singleton.mpr ⟨fo_X1_57_0, (fun h => absurd h (by decide)), rfl⟩
theorem fo_X1_273_4 : FOk RX1 273 4 9 := ⟨_, _, _, _, cls_X5, by decide, by decide, in_X5, Or.inr ⟨_, (List.mem_filter.mpr ⟨q295, rfl⟩)⟩, Or.inl rfl, tyX5_ok, nmX5⟩
theorem ga_X1_273 : ∀ t ∈ [4], FOk RX1 273 t 9 ∧ (t = 13 → 9 < 2) ∧ isI (tyN t 9) = true := List.forall_mem_singleton.mpr ⟨fo_X1_273_4, (fun h => absurd h (by decide)), rfl⟩
theorem fo_X1_276_0 : FOk RX1 276 0 18 := ⟨_, _, _, _, cls_X1, by decide, by decide, in_X1, Or.inl q353, Or.inl rfl, tyX1_ok, nmX1⟩
theorem ff_X1_0_18 : FFin RX1 0 18 false := ⟨_, _, _, cls_X1, rfl, fun h => by cases h⟩
theorem pa_X1_276 : ∀ t ∈ [0], FOk RX1 276 t 18 ∧ FFin RX1 t 18 false ∧ tyN t 18 = .int := List.forall_mem_singleton.mpr ⟨fo_X1_276_0, ff_X1_0_18, rfl⟩
theorem ga_X1_61 : ∀ t ∈ [0], FOk RX1 61 t 15 ∧ (t = 13 → 15 < 2) ∧ isR (tyN t 15) = true := List.forall_mem_singleton.mpr ⟨fo_X1_61_0, (fun h => absurd h (by decide)), rfl⟩
theorem ga_X1_67 : ∀ t ∈ [0], FOk RX1 67 t 17 ∧ (t = 13 → 17 < 2) ∧ isR (tyN t 17) = true := List.forall_mem_singleton.mpr ⟨fo_X1_67_0, (fun h => absurd h (by decide)), rfl⟩
theorem dk_X12 : ∀ j, j < 7 → dOk (tyN 10 j) = true := by decide +kernel
theorem no_X1_279 : NOk RX1 279 10 7 := ⟨_, _, cls_X12, by decide, in_X12, tyX12_ok, dk_X12, q1183, q1184, q121⟩
theorem vl_X1_284 : ∀ t ∈ [10], ∃ (C : String) (T : u_T) (N : Nat), cls[t]? = some (C, T, N) ∧ t < 50 ∧ VLk RX1 284 C q_X12_make := List.forall_mem_singleton.mpr ⟨_, _, _, cls_X12, by decide, Or.inl ⟨q1213, q1215⟩⟩
theorem vl_X1_288 : ∀ t ∈ [0], ∃ (C : String) (T : u_T) (N : Nat), cls[t]? = some (C, T, N) ∧ t < 50 ∧ VLk RX1 288 C q_X1_firstRun := List.forall_mem_singleton.mpr ⟨_, _, _, cls_X1, by decide, Or.inl ⟨q1234, qs32⟩⟩
theorem ga_X1_64 : ∀ t ∈ [0], FOk RX1 64 t 16 ∧ (t = 13 → 16 < 2) ∧ isR (tyN t 16) = true := List.forall_mem_singleton.mpr ⟨fo_X1_64_0, (fun h => absurd h (by decide)), rfl⟩
theorem ga_X1_276 : ∀ t ∈ [0], FOk RX1 276 t 18 ∧ (t = 13 → 18 < 2) ∧ isI (tyN t 18) = true := List.forall_mem_singleton.mpr ⟨fo_X1_276_0, (fun h => absurd h (by decide)), rfl⟩
theorem vl_X1_292 : ∀ t ∈ [0], ∃ (C : String) (T : u_T) (N : Nat), cls[t]? = some (C, T, N) ∧ t < 50 ∧ VLk RX1 292 C q_X1_isRun := List.forall_mem_singleton.mpr ⟨_, _, _, cls_X1, by decide, Or.inl ⟨q1246, qs33⟩⟩
theorem ga_X1_71 : ∀ t ∈ [0], FOk RX1 71 t 19 ∧ (t = 13 → 19 < 2) ∧ isR (tyN t 19) = true := List.forall_mem_singleton.mpr ⟨fo_X1_71_0, (fun h => absurd h (by decide)), rfl⟩
theorem vl_X1_327 : ∀ t ∈ [0], ∃ (C : String) (T : u_T) (N : Nat), cls[t]? = some (C, T, N) ∧ t < 50 ∧ VLk RX1 327 C q_X1_want := List.forall_mem_singleton.mpr ⟨_, _, _, cls_X1, by decide, Or.inl ⟨q1258, qs34⟩⟩
theorem ga_X1_74 : ∀ t ∈ [0], FOk RX1 74 t 20 ∧ (t = 13 → 20 < 2) ∧ isI (tyN t 20) = true := List.forall_mem_singleton.mpr ⟨fo_X1_74_0, (fun h => absurd h (by decide)), rfl⟩
theorem vl_X1_295 : ∀ t ∈ [4], ∃ (C : String) (T : u_T) (N : Nat), cls[t]? = some (C, T, N) ∧ t < 50 ∧ VLk RX1 295 C q_X5_adds := List.forall_mem_singleton.mpr ⟨_, _, _, cls_X5, by decide, Or.inl ⟨q1262, q1264⟩⟩
theorem vl_X1_300 : ∀ t ∈ [4], ∃ (C : String) (T : u_T) (N : Nat), cls[t]? = some (C, T, N) ∧ t < 50 ∧ VLk RX1 300 C q_X5_orderBehind := List.forall_mem_singleton.mpr ⟨_, _, _, cls_X5, by decide, Or.inl ⟨q1267, q1269⟩⟩
theorem vl_X1_304 : ∀ t ∈ [0], ∃ (C : String) (T : u_T) (N : Nat), cls[t]? = some (C, T, N) ∧ t < 50 ∧ VLk RX1 304 C q_X1_total := List.forall_mem_singleton.mpr ⟨_, _, _, cls_X1, by decide, Or.inl ⟨q1271, qs35⟩⟩
theorem fo_X1_312_4 : FOk RX1 312 4 6 := ⟨_, _, _, _, cls_X5, by decide, by decide, in_X5, Or.inr ⟨_, (List.mem_filter.mpr ⟨q287, rfl⟩)⟩, Or.inl rfl, tyX5_ok, nmX5⟩
theorem ga_X1_312 : ∀ t ∈ [4], FOk RX1 312 t 6 ∧ (t = 13 → 6 < 2) ∧ isR (tyN t 6) = true := List.forall_mem_singleton.mpr ⟨fo_X1_312_4, (fun h => absurd h (by decide)), rfl⟩
theorem fo_X1_318_4 : FOk RX1 318 4 5 := ⟨_, _, _, _, cls_X5, by decide, by decide, in_X5, Or.inr ⟨_, (List.mem_filter.mpr ⟨q283, rfl⟩)⟩, Or.inl rfl, tyX5_ok, nmX5⟩
theorem ga_X1_318 : ∀ t ∈ [4], FOk RX1 318 t 5 ∧ (t = 13 → 5 < 2) ∧ isR (tyN t 5) = true := List.forall_mem_singleton.mpr ⟨fo_X1_318_4, (fun h => absurd h (by decide)), rfl⟩
theorem vl_X1_330 : ∀ t ∈ [0], ∃ (C : String) (T : u_T) (N : Nat), cls[t]? = some (C, T, N) ∧ t < 50 ∧ VLk RX1 330 C q_X1_isOrdered := List.forall_mem_singleton.mpr ⟨_, _, _, cls_X1, by decide, Or.inl ⟨q1288, qs36⟩⟩
theorem fo_X1_334_0 : FOk RX1 334 0 21 := ⟨_, _, _, _, cls_X1, by decide, by decide, in_X1, Or.inl q356, Or.inl rfl, tyX1_ok, nmX1⟩
theorem ff_X1_0_21 : FFin RX1 0 21 false := ⟨_, _, _, cls_X1, rfl, fun h => by cases h⟩
theorem pa_X1_334 : ∀ t ∈ [0], FOk RX1 334 t 21 ∧ FFin RX1 t 21 false ∧ tyN t 21 = .int := List.forall_mem_singleton.mpr ⟨fo_X1_334_0, ff_X1_0_21, rfl⟩
theorem ga_X1_334 : ∀ t ∈ [0], FOk RX1 334 t 21 ∧ (t = 13 → 21 < 2) ∧ isI (tyN t 21) = true := List.forall_mem_singleton.mpr ⟨fo_X1_334_0, (fun h => absurd h (by decide)), rfl⟩
theorem fo_X1_337_0 : FOk RX1 337 0 23 := ⟨_, _, _, _, cls_X1, by decide, by decide, in_X1, Or.inl q358, Or.inl rfl, tyX1_ok, nmX1⟩
theorem ff_X1_0_23 : FFin RX1 0 23 false := ⟨_, _, _, cls_X1, rfl, fun h => by cases h⟩
theorem pa_X1_337 : ∀ t ∈ [0], FOk RX1 337 t 23 ∧ FFin RX1 t 23 false ∧ tyN t 23 = .int := List.forall_mem_singleton.mpr ⟨fo_X1_337_0, ff_X1_0_23, rfl⟩
theorem ga_X1_78 : ∀ t ∈ [0], FOk RX1 78 t 22 ∧ (t = 13 → 22 < 2) ∧ isR (tyN t 22) = true := List.forall_mem_singleton.mpr ⟨fo_X1_78_0, (fun h => absurd h (by decide)), rfl⟩
theorem ga_X1_337 : ∀ t ∈ [0], FOk RX1 337 t 23 ∧ (t = 13 → 23 < 2) ∧ isI (tyN t 23) = true := List.forall_mem_singleton.mpr ⟨fo_X1_337_0, (fun h => absurd h (by decide)), rfl⟩
theorem fo_X1_365_0 : FOk RX1 365 0 27 := ⟨_, _, _, _, cls_X1, by decide, by decide, in_X1, Or.inl q362, Or.inl rfl, tyX1_ok, nmX1⟩
theorem ff_X1_0_27 : FFin RX1 0 27 false := ⟨_, _, _, cls_X1, rfl, fun h => by cases h⟩
theorem pa_X1_365 : ∀ t ∈ [0], FOk RX1 365 t 27 ∧ FFin RX1 t 27 false ∧ tyN t 27 = .int := List.forall_mem_singleton.mpr ⟨fo_X1_365_0, ff_X1_0_27, rfl⟩
theorem fo_X1_359_1 : FOk RX1 359 1 0 := ⟨_, _, _, _, cls_X2, by decide, by decide, in_X2, Or.inr ⟨_, (List.mem_filter.mpr ⟨q140, rfl⟩)⟩, Or.inl rfl, tyX2_ok, nmX2⟩
theorem ga_X1_359 : ∀ t ∈ [1], FOk RX1 359 t 0 ∧ (t = 13 → 0 < 2) ∧ isR (tyN t 0) = true := List.forall_mem_singleton.mpr ⟨fo_X1_359_1, (fun h => by decide), rfl⟩
theorem fo_X1_362_1 : FOk RX1 362 1 1 := ⟨_, _, _, _, cls_X2, by decide, by decide, in_X2, Or.inr ⟨_, (List.mem_filter.mpr ⟨q143, rfl⟩)⟩, Or.inl rfl, tyX2_ok, nmX2⟩
theorem ga_X1_362 : ∀ t ∈ [1], FOk RX1 362 t 1 ∧ (t = 13 → 1 < 2) ∧ isR (tyN t 1) = true := List.forall_mem_singleton.mpr ⟨fo_X1_362_1, (fun h => by decide), rfl⟩
theorem vl_X1_376 : ∀ t ∈ [0], ∃ (C : String) (T : u_T) (N : Nat), cls[t]? = some (C, T, N) ∧ t < 50 ∧ VLk RX1 376 C q_X1_wiresOf := List.forall_mem_singleton.mpr ⟨_, _, _, cls_X1, by decide, Or.inl ⟨q1317, qs37⟩⟩
theorem ga_X1_90 : ∀ t ∈ [0], FOk RX1 90 t 28 ∧ (t = 13 → 28 < 2) ∧ isR (tyN t 28) = true := List.forall_mem_singleton.mpr ⟨fo_X1_90_0, (fun h => absurd h (by decide)), rfl⟩
theorem vl_X1_382 : ∀ t ∈ [1], ∃ (C : String) (T : u_T) (N : Nat), cls[t]? = some (C, T, N) ∧ t < 50 ∧ VLk RX1 382 C q_X2_like := List.forall_mem_singleton.mpr ⟨_, _, _, cls_X2, by decide, Or.inl ⟨q1322, q1324⟩⟩
theorem ga_X1_81 : ∀ t ∈ [0], FOk RX1 81 t 24 ∧ (t = 13 → 24 < 2) ∧ isR (tyN t 24) = true := List.forall_mem_singleton.mpr ⟨fo_X1_81_0, (fun h => absurd h (by decide)), rfl⟩
theorem ga_X1_84 : ∀ t ∈ [0], FOk RX1 84 t 25 ∧ (t = 13 → 25 < 2) ∧ isR (tyN t 25) = true := List.forall_mem_singleton.mpr ⟨fo_X1_84_0, (fun h => absurd h (by decide)), rfl⟩
theorem ga_X1_87 : ∀ t ∈ [0], FOk RX1 87 t 26 ∧ (t = 13 → 26 < 2) ∧ isR (tyN t 26) = true := List.forall_mem_singleton.mpr ⟨fo_X1_87_0, (fun h => absurd h (by decide)), rfl⟩
theorem ga_X1_365 : ∀ t ∈ [0], FOk RX1 365 t 27 ∧ (t = 13 → 27 < 2) ∧ isI (tyN t 27) = true := List.forall_mem_singleton.mpr ⟨fo_X1_365_0, (fun h => absurd h (by decide)), rfl⟩
theorem ga_X1_93 : ∀ t ∈ [0], FOk RX1 93 t 29 ∧ (t = 13 → 29 < 2) ∧ isR (tyN t 29) = true := List.forall_mem_singleton.mpr ⟨fo_X1_93_0, (fun h => absurd h (by decide)), rfl⟩
theorem vl_X1_386 : ∀ t ∈ [0], ∃ (C : String) (T : u_T) (N : Nat), cls[t]? = some (C, T, N) ∧ t < 50 ∧ VLk RX1 386 C q_X1_isKept := List.forall_mem_singleton.mpr ⟨_, _, _, cls_X1, by decide, Or.inl ⟨q1339, qs38⟩⟩
theorem vl_X1_389 : ∀ t ∈ [1], ∃ (C : String) (T : u_T) (N : Nat), cls[t]? = some (C, T, N) ∧ t < 50 ∧ VLk RX1 389 C q_X2_apart := List.forall_mem_singleton.mpr ⟨_, _, _, cls_X2, by decide, Or.inl ⟨q1347, q1349⟩⟩
theorem ga_X1_108 : ∀ t ∈ [0], FOk RX1 108 t 33 ∧ (t = 13 → 33 < 2) ∧ isR (tyN t 33) = true := List.forall_mem_singleton.mpr ⟨fo_X1_108_0, (fun h => absurd h (by decide)), rfl⟩
theorem fo_X1_393_0 : FOk RX1 393 0 35 := ⟨_, _, _, _, cls_X1, by decide, by decide, in_X1, Or.inl q370, Or.inl rfl, tyX1_ok, nmX1⟩
theorem ff_X1_0_35 : FFin RX1 0 35 false := ⟨_, _, _, cls_X1, rfl, fun h => by cases h⟩
theorem pa_X1_393 : ∀ t ∈ [0], FOk RX1 393 t 35 ∧ FFin RX1 t 35 false ∧ tyN t 35 = .int := List.forall_mem_singleton.mpr ⟨fo_X1_393_0, ff_X1_0_35, rfl⟩
theorem vl_X1_396 : ∀ t ∈ [0], ∃ (C : String) (T : u_T) (N : Nat), cls[t]? = some (C, T, N) ∧ t < 50 ∧ VLk RX1 396 C q_X1_plan := List.forall_mem_singleton.mpr ⟨_, _, _, cls_X1, by decide, Or.inl ⟨q1363, qs40⟩⟩
theorem ga_X1_393 : ∀ t ∈ [0], FOk RX1 393 t 35 ∧ (t = 13 → 35 < 2) ∧ isI (tyN t 35) = true := List.forall_mem_singleton.mpr ⟨fo_X1_393_0, (fun h => absurd h (by decide)), rfl⟩
theorem fo_X1_399_0 : FOk RX1 399 0 34 := ⟨_, _, _, _, cls_X1, by decide, by decide, in_X1, Or.inl q369, Or.inl rfl, tyX1_ok, nmX1⟩
theorem ff_X1_0_34 : FFin RX1 0 34 false := ⟨_, _, _, cls_X1, rfl, fun h => by cases h⟩
theorem pa_X1_399 : ∀ t ∈ [0], FOk RX1 399 t 34 ∧ FFin RX1 t 34 false ∧ tyN t 34 = .int := List.forall_mem_singleton.mpr ⟨fo_X1_399_0, ff_X1_0_34, rfl⟩
theorem ga_X1_97 : ∀ t ∈ [0], FOk RX1 97 t 30 ∧ (t = 13 → 30 < 2) ∧ isR (tyN t 30) = true := List.forall_mem_singleton.mpr ⟨fo_X1_97_0, (fun h => absurd h (by decide)), rfl⟩
theorem ga_X1_100 : ∀ t ∈ [0], FOk RX1 100 t 31 ∧ (t = 13 → 31 < 2) ∧ isR (tyN t 31) = true := List.forall_mem_singleton.mpr ⟨fo_X1_100_0, (fun h => absurd h (by decide)), rfl⟩
theorem ga_X1_103 : ∀ t ∈ [0], FOk RX1 103 t 32 ∧ (t = 13 → 32 < 2) ∧ isR (tyN t 32) = true := List.forall_mem_singleton.mpr ⟨fo_X1_103_0, (fun h => absurd h (by decide)), rfl⟩
theorem vl_X1_402 : ∀ t ∈ [0], ∃ (C : String) (T : u_T) (N : Nat), cls[t]? = some (C, T, N) ∧ t < 50 ∧ VLk RX1 402 C q_X1_two := List.forall_mem_singleton.mpr ⟨_, _, _, cls_X1, by decide, Or.inl ⟨q1367, qs41⟩⟩
theorem ga_X1_399 : ∀ t ∈ [0], FOk RX1 399 t 34 ∧ (t = 13 → 34 < 2) ∧ isI (tyN t 34) = true := List.forall_mem_singleton.mpr ⟨fo_X1_399_0, (fun h => absurd h (by decide)), rfl⟩
theorem dk_J5 : ∀ j, j < 6 → dOk (tyN 11 j) = true := by decide +kernel
theorem no_X1_143 : NOk RX1 143 11 6 := ⟨_, _, cls_J5, by decide, in_J5, tyJ5_ok, dk_J5, q1390, q1391, q109⟩
theorem fo_X1_211_3 : FOk RX1 211 3 10 := ⟨_, _, _, _, cls_X4, by decide, by decide, in_X4, Or.inr ⟨_, (List.mem_filter.mpr ⟨q234, rfl⟩)⟩, Or.inl rfl, tyX4_ok, nmX4⟩
theorem ga_X1_211 : ∀ t ∈ [3], FOk RX1 211 t 10 ∧ (t = 13 → 10 < 2) ∧ isR (tyN t 10) = true := List.forall_mem_singleton.mpr ⟨fo_X1_211_3, (fun h => absurd h (by decide)), rfl⟩
theorem fo_X10_7_8 : FOk RX10 7 8 6 := ⟨_, _, _, _, cls_X10, by decide, by decide, in_X10, Or.inl q829, Or.inl rfl, tyX10_ok, nmX10⟩
theorem ff_X10_8_6 : FFin RX10 8 6 true := ⟨_, _, _, cls_X10, rfl, fun h => rfl⟩
theorem pa_X10_7 : ∀ t ∈ [8], FOk RX10 7 t 6 ∧ FFin RX10 t 6 true ∧ tyN t 6 = .int := List.forall_mem_singleton.mpr ⟨fo_X10_7_8, ff_X10_8_6, rfl⟩
theorem fo_X10_13_8 : FOk RX10 13 8 7 := ⟨_, _, _, _, cls_X10, by decide, by decide, in_X10, Or.inl q831, Or.inl rfl, tyX10_ok, nmX10⟩
theorem ff_X10_8_7 : FFin RX10 8 7 true := ⟨_, _, _, cls_X10, rfl, fun h => rfl⟩
theorem pa_X10_13 : ∀ t ∈ [8], FOk RX10 13 t 7 ∧ FFin RX10 t 7 true ∧ tyN t 7 = .int := List.forall_mem_singleton.mpr ⟨fo_X10_13_8, ff_X10_8_7, rfl⟩
theorem no_X11_9 : NOk RX11 9 4 10 := ⟨_, _, cls_X5, by decide, in_X5, tyX5_ok, dk_X5, q1036, q259, q100⟩
theorem fo_X11_14_9 : FOk RX11 14 9 9 := ⟨_, _, _, _, cls_X11, by decide, by decide, in_X11, Or.inl q1038, Or.inl rfl, tyX11_ok, nmX11⟩
theorem ff_X11_9_9 : FFin RX11 9 9 true := ⟨_, _, _, cls_X11, rfl, fun h => rfl⟩
theorem pa_X11_14 : ∀ t ∈ [9], FOk RX11 14 t 9 ∧ FFin RX11 t 9 true ∧ isR (tyN t 9) = true := List.forall_mem_singleton.mpr ⟨fo_X11_14_9, ff_X11_9_9, rfl⟩
theorem vl_X11_49 : ∀ t ∈ [9], ∃ (C : String) (T : u_T) (N : Nat), cls[t]? = some (C, T, N) ∧ t < 50 ∧ VLk RX11 49 C q_X8_go := List.forall_mem_singleton.mpr ⟨_, _, _, cls_X11, by decide, Or.inr (Or.inl ⟨⟨"PlugHall$JobReader", "go", "()V"⟩, "PlugHall$Tokens", q1055, q1056, (Or.inl (List.mem_filter.mpr ⟨q566, rfl⟩)), ⟨by decide, by decide⟩, q1057, rfl⟩)⟩
theorem fo_X11_20_9 : FOk RX11 20 9 4 := ⟨_, _, _, _, cls_X11, by decide, by decide, in_X11, Or.inl q520, Or.inr q521, tyX11_ok, nmX11⟩
theorem ga_X11_20 : ∀ t ∈ [9], FOk RX11 20 t 4 ∧ (t = 13 → 4 < 2) ∧ isI (tyN t 4) = true := List.forall_mem_singleton.mpr ⟨fo_X11_20_9, (fun h => absurd h (by decide)), rfl⟩
theorem vl_X11_54 : ∀ t ∈ [9], ∃ (C : String) (T : u_T) (N : Nat), cls[t]? = some (C, T, N) ∧ t < 50 ∧ VLk RX11 54 C q_X8_is := List.forall_mem_singleton.mpr ⟨_, _, _, cls_X11, by decide, Or.inr (Or.inl ⟨⟨"PlugHall$JobReader", "is", "(Ljava/lang/String;)Z"⟩, "PlugHall$Tokens", q1059, q1060, (Or.inl (List.mem_filter.mpr ⟨q1061, rfl⟩)), ⟨by decide, by decide⟩, q1062, rfl⟩)⟩
theorem vl_X11_64 : ∀ t ∈ [9], ∃ (C : String) (T : u_T) (N : Nat), cls[t]? = some (C, T, N) ∧ t < 50 ∧ VLk RX11 64 C q_X8_need := List.forall_mem_singleton.mpr ⟨_, _, _, cls_X11, by decide, Or.inr (Or.inl ⟨⟨"PlugHall$JobReader", "need", "(ZI)V"⟩, "PlugHall$Tokens", q1069, q1070, (Or.inl (List.mem_filter.mpr ⟨q780, rfl⟩)), ⟨by decide, by decide⟩, q1071, rfl⟩)⟩
theorem vl_X11_68 : ∀ t ∈ [9], ∃ (C : String) (T : u_T) (N : Nat), cls[t]? = some (C, T, N) ∧ t < 50 ∧ VLk RX11 68 C q_X11_field := List.forall_mem_singleton.mpr ⟨_, _, _, cls_X11, by decide, Or.inl ⟨q1072, qs23⟩⟩
theorem vl_X11_70 : ∀ t ∈ [9], ∃ (C : String) (T : u_T) (N : Nat), cls[t]? = some (C, T, N) ∧ t < 50 ∧ VLk RX11 70 C q_X11_breaks := List.forall_mem_singleton.mpr ⟨_, _, _, cls_X11, by decide, Or.inl ⟨q1166, qs25⟩⟩
theorem vl_X11_73 : ∀ t ∈ [9], ∃ (C : String) (T : u_T) (N : Nat), cls[t]? = some (C, T, N) ∧ t < 50 ∧ VLk RX11 73 C q_X11_want := List.forall_mem_singleton.mpr ⟨_, _, _, cls_X11, by decide, Or.inl ⟨q1171, qs26⟩⟩
theorem vl_X11_77 : ∀ t ∈ [9], ∃ (C : String) (T : u_T) (N : Nat), cls[t]? = some (C, T, N) ∧ t < 50 ∧ VLk RX11 77 C q_X8_sign := List.forall_mem_singleton.mpr ⟨_, _, _, cls_X11, by decide, Or.inr (Or.inl ⟨⟨"PlugHall$JobReader", "sign", "(I)V"⟩, "PlugHall$Tokens", q1176, q1177, (Or.inl (List.mem_filter.mpr ⟨q860, rfl⟩)), ⟨by decide, by decide⟩, q1178, rfl⟩)⟩
theorem ga_X11_14 : ∀ t ∈ [9], FOk RX11 14 t 9 ∧ (t = 13 → 9 < 2) ∧ isR (tyN t 9) = true := List.forall_mem_singleton.mpr ⟨fo_X11_14_9, (fun h => absurd h (by decide)), rfl⟩
theorem fo_X11_81_4 : FOk RX11 81 4 8 := ⟨_, _, _, _, cls_X5, by decide, by decide, in_X5, Or.inr ⟨_, (List.mem_filter.mpr ⟨q292, rfl⟩)⟩, Or.inl rfl, tyX5_ok, nmX5⟩
theorem ga_X11_81 : ∀ t ∈ [4], FOk RX11 81 t 8 ∧ (t = 13 → 8 < 2) ∧ isI (tyN t 8) = true := List.forall_mem_singleton.mpr ⟨fo_X11_81_4, (fun h => absurd h (by decide)), rfl⟩
theorem vl_X11_84 : ∀ t ∈ [9], ∃ (C : String) (T : u_T) (N : Nat), cls[t]? = some (C, T, N) ∧ t < 50 ∧ VLk RX11 84 C q_X11_isName := List.forall_mem_singleton.mpr ⟨_, _, _, cls_X11, by decide, Or.inl ⟨q1076, qs24⟩⟩
theorem fo_X11_35_9 : FOk RX11 35 9 8 := ⟨_, _, _, _, cls_X11, by decide, by decide, in_X11, Or.inl q533, Or.inr q534, tyX11_ok, nmX11⟩
theorem ga_X11_35 : ∀ t ∈ [9], FOk RX11 35 t 8 ∧ (t = 13 → 8 < 2) ∧ isR (tyN t 8) = true := List.forall_mem_singleton.mpr ⟨fo_X11_35_9, (fun h => absurd h (by decide)), rfl⟩
theorem vl_X11_88 : ∀ t ∈ [4], ∃ (C : String) (T : u_T) (N : Nat), cls[t]? = some (C, T, N) ∧ t < 50 ∧ VLk RX11 88 C q_X5_find := List.forall_mem_singleton.mpr ⟨_, _, _, cls_X5, by decide, Or.inl ⟨q1157, q1159⟩⟩
theorem vl_X11_91 : ∀ t ∈ [9], ∃ (C : String) (T : u_T) (N : Nat), cls[t]? = some (C, T, N) ∧ t < 50 ∧ VLk RX11 91 C q_X8_number := List.forall_mem_singleton.mpr ⟨_, _, _, cls_X11, by decide, Or.inr (Or.inl ⟨⟨"PlugHall$JobReader", "number", "(II)I"⟩, "PlugHall$Tokens", q1162, q1163, (Or.inl (List.mem_filter.mpr ⟨q851, rfl⟩)), ⟨by decide, by decide⟩, q1164, rfl⟩)⟩
theorem fo_X11_100_4 : FOk RX11 100 4 0 := ⟨_, _, _, _, cls_X5, by decide, by decide, in_X5, Or.inr ⟨_, (List.mem_filter.mpr ⟨q267, rfl⟩)⟩, Or.inl rfl, tyX5_ok, nmX5⟩
theorem ga_X11_100 : ∀ t ∈ [4], FOk RX11 100 t 0 ∧ (t = 13 → 0 < 2) ∧ isR (tyN t 0) = true := List.forall_mem_singleton.mpr ⟨fo_X11_100_4, (fun h => by decide), rfl⟩
theorem fo_X11_104_4 : FOk RX11 104 4 1 := ⟨_, _, _, _, cls_X5, by decide, by decide, in_X5, Or.inr ⟨_, (List.mem_filter.mpr ⟨q269, rfl⟩)⟩, Or.inl rfl, tyX5_ok, nmX5⟩
theorem ga_X11_104 : ∀ t ∈ [4], FOk RX11 104 t 1 ∧ (t = 13 → 1 < 2) ∧ isR (tyN t 1) = true := List.forall_mem_singleton.mpr ⟨fo_X11_104_4, (fun h => by decide), rfl⟩
theorem fo_X11_108_4 : FOk RX11 108 4 2 := ⟨_, _, _, _, cls_X5, by decide, by decide, in_X5, Or.inr ⟨_, (List.mem_filter.mpr ⟨q272, rfl⟩)⟩, Or.inl rfl, tyX5_ok, nmX5⟩
theorem ga_X11_108 : ∀ t ∈ [4], FOk RX11 108 t 2 ∧ (t = 13 → 2 < 2) ∧ isR (tyN t 2) = true := List.forall_mem_singleton.mpr ⟨fo_X11_108_4, (fun h => absurd h (by decide)), rfl⟩
theorem ff_X11_4_8 : FFin RX11 4 8 false := ⟨_, _, _, cls_X5, rfl, fun h => by cases h⟩
theorem pa_X11_81 : ∀ t ∈ [4], FOk RX11 81 t 8 ∧ FFin RX11 t 8 false ∧ tyN t 8 = .int := List.forall_mem_singleton.mpr ⟨fo_X11_81_4, ff_X11_4_8, rfl⟩
theorem dk_J7 : ∀ j, j < 4 → dOk (tyN 12 j) = true := by decide +kernel
theorem no_X11_26 : NOk RX11 26 12 4 := ⟨_, _, cls_J7, by decide, in_J7, tyJ7_ok, dk_J7, q1081, q582, q113⟩
theorem vl_X11_31 : ∀ t ∈ [12], ∃ (C : String) (T : u_T) (N : Nat), cls[t]? = some (C, T, N) ∧ t < 50 ∧ VLk RX11 31 C q_J7_append_2 := List.forall_mem_singleton.mpr ⟨_, _, _, cls_J7, by decide, Or.inl ⟨q1084, q1086⟩⟩
theorem vl_X11_39 : ∀ t ∈ [12], ∃ (C : String) (T : u_T) (N : Nat), cls[t]? = some (C, T, N) ∧ t < 50 ∧ VLk RX11 39 C q_J7_toString := List.forall_mem_singleton.mpr ⟨_, _, _, cls_J7, by decide, Or.inl ⟨q1130, q694⟩⟩
theorem vl_X11_43 : ∀ t ∈ [13], ∃ (C : String) (T : u_T) (N : Nat), cls[t]? = some (C, T, N) ∧ t < 50 ∧ VLk RX11 43 C q_J8_indexOf := List.forall_mem_singleton.mpr ⟨_, _, _, cls_J8, by decide, Or.inl ⟨q1131, q1133⟩⟩
theorem fo_X11_111_9 : FOk RX11 111 9 6 := ⟨_, _, _, _, cls_X11, by decide, by decide, in_X11, Or.inl q528, Or.inr q529, tyX11_ok, nmX11⟩
theorem ga_X11_111 : ∀ t ∈ [9], FOk RX11 111 t 6 ∧ (t = 13 → 6 < 2) ∧ isI (tyN t 6) = true := List.forall_mem_singleton.mpr ⟨fo_X11_111_9, (fun h => absurd h (by decide)), rfl⟩
theorem fo_X11_117_4 : FOk RX11 117 4 3 := ⟨_, _, _, _, cls_X5, by decide, by decide, in_X5, Or.inr ⟨_, (List.mem_filter.mpr ⟨q276, rfl⟩)⟩, Or.inl rfl, tyX5_ok, nmX5⟩
theorem ga_X11_117 : ∀ t ∈ [4], FOk RX11 117 t 3 ∧ (t = 13 → 3 < 2) ∧ isR (tyN t 3) = true := List.forall_mem_singleton.mpr ⟨fo_X11_117_4, (fun h => absurd h (by decide)), rfl⟩
theorem fo_X11_119_4 : FOk RX11 119 4 9 := ⟨_, _, _, _, cls_X5, by decide, by decide, in_X5, Or.inr ⟨_, (List.mem_filter.mpr ⟨q294, rfl⟩)⟩, Or.inl rfl, tyX5_ok, nmX5⟩
theorem ga_X11_119 : ∀ t ∈ [4], FOk RX11 119 t 9 ∧ (t = 13 → 9 < 2) ∧ isI (tyN t 9) = true := List.forall_mem_singleton.mpr ⟨fo_X11_119_4, (fun h => absurd h (by decide)), rfl⟩
theorem fo_X11_122_4 : FOk RX11 122 4 4 := ⟨_, _, _, _, cls_X5, by decide, by decide, in_X5, Or.inr ⟨_, (List.mem_filter.mpr ⟨q279, rfl⟩)⟩, Or.inl rfl, tyX5_ok, nmX5⟩
theorem ga_X11_122 : ∀ t ∈ [4], FOk RX11 122 t 4 ∧ (t = 13 → 4 < 2) ∧ isR (tyN t 4) = true := List.forall_mem_singleton.mpr ⟨fo_X11_122_4, (fun h => absurd h (by decide)), rfl⟩
theorem fo_X11_124_4 : FOk RX11 124 4 5 := ⟨_, _, _, _, cls_X5, by decide, by decide, in_X5, Or.inr ⟨_, (List.mem_filter.mpr ⟨q282, rfl⟩)⟩, Or.inl rfl, tyX5_ok, nmX5⟩
theorem ga_X11_124 : ∀ t ∈ [4], FOk RX11 124 t 5 ∧ (t = 13 → 5 < 2) ∧ isR (tyN t 5) = true := List.forall_mem_singleton.mpr ⟨fo_X11_124_4, (fun h => absurd h (by decide)), rfl⟩
theorem fo_X11_127_4 : FOk RX11 127 4 6 := ⟨_, _, _, _, cls_X5, by decide, by decide, in_X5, Or.inr ⟨_, (List.mem_filter.mpr ⟨q286, rfl⟩)⟩, Or.inl rfl, tyX5_ok, nmX5⟩
theorem ga_X11_127 : ∀ t ∈ [4], FOk RX11 127 t 6 ∧ (t = 13 → 6 < 2) ∧ isR (tyN t 6) = true := List.forall_mem_singleton.mpr ⟨fo_X11_127_4, (fun h => absurd h (by decide)), rfl⟩
theorem fo_X11_132_4 : FOk RX11 132 4 7 := ⟨_, _, _, _, cls_X5, by decide, by decide, in_X5, Or.inr ⟨_, (List.mem_filter.mpr ⟨q290, rfl⟩)⟩, Or.inl rfl, tyX5_ok, nmX5⟩
theorem ga_X11_132 : ∀ t ∈ [4], FOk RX11 132 t 7 ∧ (t = 13 → 7 < 2) ∧ isR (tyN t 7) = true := List.forall_mem_singleton.mpr ⟨fo_X11_132_4, (fun h => absurd h (by decide)), rfl⟩
theorem ff_X11_4_9 : FFin RX11 4 9 false := ⟨_, _, _, cls_X5, rfl, fun h => by cases h⟩
theorem pa_X11_119 : ∀ t ∈ [4], FOk RX11 119 t 9 ∧ FFin RX11 t 9 false ∧ tyN t 9 = .int := List.forall_mem_singleton.mpr ⟨fo_X11_119_4, ff_X11_4_9, rfl⟩
theorem no_X12_9 : NOk RX12 9 1 3 := ⟨_, _, cls_X2, by decide, in_X2, tyX2_ok, dk_X2, q1189, q133, q97⟩
theorem fo_X12_12_10 : FOk RX12 12 10 1 := ⟨_, _, _, _, cls_X12, by decide, by decide, in_X12, Or.inl q1192, Or.inl rfl, tyX12_ok, nmX12⟩
theorem ff_X12_10_1 : FFin RX12 10 1 true := ⟨_, _, _, cls_X12, rfl, fun h => rfl⟩
theorem pa_X12_12 : ∀ t ∈ [10], FOk RX12 12 t 1 ∧ FFin RX12 t 1 true ∧ isR (tyN t 1) = true := List.forall_mem_singleton.mpr ⟨fo_X12_12_10, ff_X12_10_1, rfl⟩
theorem fo_X12_18_10 : FOk RX12 18 10 2 := ⟨_, _, _, _, cls_X12, by decide, by decide, in_X12, Or.inl q1193, Or.inl rfl, tyX12_ok, nmX12⟩
theorem ff_X12_10_2 : FFin RX12 10 2 true := ⟨_, _, _, cls_X12, rfl, fun h => rfl⟩
theorem pa_X12_18 : ∀ t ∈ [10], FOk RX12 18 t 2 ∧ FFin RX12 t 2 true ∧ isR (tyN t 2) = true := List.forall_mem_singleton.mpr ⟨fo_X12_18_10, ff_X12_10_2, rfl⟩
theorem fo_X12_22_10 : FOk RX12 22 10 3 := ⟨_, _, _, _, cls_X12, by decide, by decide, in_X12, Or.inl q1194, Or.inl rfl, tyX12_ok, nmX12⟩
theorem ff_X12_10_3 : FFin RX12 10 3 true := ⟨_, _, _, cls_X12, rfl, fun h => rfl⟩
theorem pa_X12_22 : ∀ t ∈ [10], FOk RX12 22 t 3 ∧ FFin RX12 t 3 true ∧ isR (tyN t 3) = true := List.forall_mem_singleton.mpr ⟨fo_X12_22_10, ff_X12_10_3, rfl⟩
theorem fo_X12_25_10 : FOk RX12 25 10 6 := ⟨_, _, _, _, cls_X12, by decide, by decide, in_X12, Or.inl q1197, Or.inl rfl, tyX12_ok, nmX12⟩
theorem ff_X12_10_6 : FFin RX12 10 6 false := ⟨_, _, _, cls_X12, rfl, fun h => by cases h⟩
theorem pa_X12_25 : ∀ t ∈ [10], FOk RX12 25 t 6 ∧ FFin RX12 t 6 false ∧ (tyN t 6 = .boolean ∨ tyN t 6 = .byte) := List.forall_mem_singleton.mpr ⟨fo_X12_25_10, ff_X12_10_6, Or.inl rfl⟩
theorem fo_X12_29_10 : FOk RX12 29 10 0 := ⟨_, _, _, _, cls_X12, by decide, by decide, in_X12, Or.inl q1191, Or.inl rfl, tyX12_ok, nmX12⟩
theorem ff_X12_10_0 : FFin RX12 10 0 true := ⟨_, _, _, cls_X12, rfl, fun h => rfl⟩
theorem pa_X12_29 : ∀ t ∈ [10], FOk RX12 29 t 0 ∧ FFin RX12 t 0 true ∧ isR (tyN t 0) = true := List.forall_mem_singleton.mpr ⟨fo_X12_29_10, ff_X12_10_0, rfl⟩
theorem ga_X12_29 : ∀ t ∈ [10], FOk RX12 29 t 0 ∧ (t = 13 → 0 < 2) ∧ isR (tyN t 0) = true := List.forall_mem_singleton.mpr ⟨fo_X12_29_10, (fun h => by decide), rfl⟩
theorem fo_X12_45_4 : FOk RX12 45 4 3 := ⟨_, _, _, _, cls_X5, by decide, by decide, in_X5, Or.inr ⟨_, (List.mem_filter.mpr ⟨q275, rfl⟩)⟩, Or.inl rfl, tyX5_ok, nmX5⟩
theorem ga_X12_45 : ∀ t ∈ [4], FOk RX12 45 t 3 ∧ (t = 13 → 3 < 2) ∧ isR (tyN t 3) = true := List.forall_mem_singleton.mpr ⟨fo_X12_45_4, (fun h => absurd h (by decide)), rfl⟩
theorem vl_X12_41 : ∀ t ∈ [10], ∃ (C : String) (T : u_T) (N : Nat), cls[t]? = some (C, T, N) ∧ t < 50 ∧ VLk RX12 41 C q_X12_wire := List.forall_mem_singleton.mpr ⟨_, _, _, cls_X12, by decide, Or.inl ⟨q1217, qs28⟩⟩
theorem fo_X12_50_4 : FOk RX12 50 4 9 := ⟨_, _, _, _, cls_X5, by decide, by decide, in_X5, Or.inr ⟨_, (List.mem_filter.mpr ⟨q293, rfl⟩)⟩, Or.inl rfl, tyX5_ok, nmX5⟩
theorem ga_X12_50 : ∀ t ∈ [4], FOk RX12 50 t 9 ∧ (t = 13 → 9 < 2) ∧ isI (tyN t 9) = true := List.forall_mem_singleton.mpr ⟨fo_X12_50_4, (fun h => absurd h (by decide)), rfl⟩
theorem vl_X12_53 : ∀ t ∈ [10], ∃ (C : String) (T : u_T) (N : Nat), cls[t]? = some (C, T, N) ∧ t < 50 ∧ VLk RX12 53 C q_X12_takesIn := List.forall_mem_singleton.mpr ⟨_, _, _, cls_X12, by decide, Or.inl ⟨q1222, qs29⟩⟩
theorem vl_X12_56 : ∀ t ∈ [10], ∃ (C : String) (T : u_T) (N : Nat), cls[t]? = some (C, T, N) ∧ t < 50 ∧ VLk RX12 56 C q_X12_prints := List.forall_mem_singleton.mpr ⟨_, _, _, cls_X12, by decide, Or.inl ⟨q1230, qs31⟩⟩
theorem ga_X12_25 : ∀ t ∈ [10], FOk RX12 25 t 6 ∧ (t = 13 → 6 < 2) ∧ isI (tyN t 6) = true := List.forall_mem_singleton.mpr ⟨fo_X12_25_10, (fun h => absurd h (by decide)), rfl⟩
theorem fo_X12_59_10 : FOk RX12 59 10 5 := ⟨_, _, _, _, cls_X12, by decide, by decide, in_X12, Or.inl q1196, Or.inl rfl, tyX12_ok, nmX12⟩
theorem ga_X12_59 : ∀ t ∈ [10], FOk RX12 59 t 5 ∧ (t = 13 → 5 < 2) ∧ isI (tyN t 5) = true := List.forall_mem_singleton.mpr ⟨fo_X12_59_10, (fun h => absurd h (by decide)), rfl⟩
theorem ga_X12_12 : ∀ t ∈ [10], FOk RX12 12 t 1 ∧ (t = 13 → 1 < 2) ∧ isR (tyN t 1) = true := List.forall_mem_singleton.mpr ⟨fo_X12_12_10, (fun h => by decide), rfl⟩
theorem vl_X12_33 : ∀ t ∈ [1], ∃ (C : String) (T : u_T) (N : Nat), cls[t]? = some (C, T, N) ∧ t < 50 ∧ VLk RX12 33 C q_X2_add := List.forall_mem_singleton.mpr ⟨_, _, _, cls_X2, by decide, Or.inl ⟨q1221, q871⟩⟩
theorem fo_X12_62_4 : FOk RX12 62 4 4 := ⟨_, _, _, _, cls_X5, by decide, by decide, in_X5, Or.inr ⟨_, (List.mem_filter.mpr ⟨q278, rfl⟩)⟩, Or.inl rfl, tyX5_ok, nmX5⟩
theorem ga_X12_62 : ∀ t ∈ [4], FOk RX12 62 t 4 ∧ (t = 13 → 4 < 2) ∧ isR (tyN t 4) = true := List.forall_mem_singleton.mpr ⟨fo_X12_62_4, (fun h => absurd h (by decide)), rfl⟩
theorem fo_X12_65_4 : FOk RX12 65 4 2 := ⟨_, _, _, _, cls_X5, by decide, by decide, in_X5, Or.inr ⟨_, (List.mem_filter.mpr ⟨q273, rfl⟩)⟩, Or.inl rfl, tyX5_ok, nmX5⟩
theorem ga_X12_65 : ∀ t ∈ [4], FOk RX12 65 t 2 ∧ (t = 13 → 2 < 2) ∧ isR (tyN t 2) = true := List.forall_mem_singleton.mpr ⟨fo_X12_65_4, (fun h => absurd h (by decide)), rfl⟩
theorem fo_X12_68_4 : FOk RX12 68 4 1 := ⟨_, _, _, _, cls_X5, by decide, by decide, in_X5, Or.inr ⟨_, (List.mem_filter.mpr ⟨q270, rfl⟩)⟩, Or.inl rfl, tyX5_ok, nmX5⟩
theorem ga_X12_68 : ∀ t ∈ [4], FOk RX12 68 t 1 ∧ (t = 13 → 1 < 2) ∧ isR (tyN t 1) = true := List.forall_mem_singleton.mpr ⟨fo_X12_68_4, (fun h => by decide), rfl⟩
theorem fo_X12_71_4 : FOk RX12 71 4 7 := ⟨_, _, _, _, cls_X5, by decide, by decide, in_X5, Or.inr ⟨_, (List.mem_filter.mpr ⟨q289, rfl⟩)⟩, Or.inl rfl, tyX5_ok, nmX5⟩
theorem ga_X12_71 : ∀ t ∈ [4], FOk RX12 71 t 7 ∧ (t = 13 → 7 < 2) ∧ isR (tyN t 7) = true := List.forall_mem_singleton.mpr ⟨fo_X12_71_4, (fun h => absurd h (by decide)), rfl⟩
theorem vl_X12_74 : ∀ t ∈ [10], ∃ (C : String) (T : u_T) (N : Nat), cls[t]? = some (C, T, N) ∧ t < 50 ∧ VLk RX12 74 C q_X12_point := List.forall_mem_singleton.mpr ⟨_, _, _, cls_X12, by decide, Or.inl ⟨q1226, qs30⟩⟩
theorem fo_X12_37_10 : FOk RX12 37 10 4 := ⟨_, _, _, _, cls_X12, by decide, by decide, in_X12, Or.inl q1195, Or.inl rfl, tyX12_ok, nmX12⟩
theorem ga_X12_37 : ∀ t ∈ [10], FOk RX12 37 t 4 ∧ (t = 13 → 4 < 2) ∧ isI (tyN t 4) = true := List.forall_mem_singleton.mpr ⟨fo_X12_37_10, (fun h => absurd h (by decide)), rfl⟩
theorem ga_X12_18 : ∀ t ∈ [10], FOk RX12 18 t 2 ∧ (t = 13 → 2 < 2) ∧ isR (tyN t 2) = true := List.forall_mem_singleton.mpr ⟨fo_X12_18_10, (fun h => absurd h (by decide)), rfl⟩
theorem ga_X12_22 : ∀ t ∈ [10], FOk RX12 22 t 3 ∧ (t = 13 → 3 < 2) ∧ isR (tyN t 3) = true := List.forall_mem_singleton.mpr ⟨fo_X12_22_10, (fun h => absurd h (by decide)), rfl⟩
theorem ff_X12_10_4 : FFin RX12 10 4 false := ⟨_, _, _, cls_X12, rfl, fun h => by cases h⟩
theorem pa_X12_37 : ∀ t ∈ [10], FOk RX12 37 t 4 ∧ FFin RX12 t 4 false ∧ tyN t 4 = .int := List.forall_mem_singleton.mpr ⟨fo_X12_37_10, ff_X12_10_4, rfl⟩
theorem fo_X12_78_4 : FOk RX12 78 4 6 := ⟨_, _, _, _, cls_X5, by decide, by decide, in_X5, Or.inr ⟨_, (List.mem_filter.mpr ⟨q285, rfl⟩)⟩, Or.inl rfl, tyX5_ok, nmX5⟩
theorem ga_X12_78 : ∀ t ∈ [4], FOk RX12 78 t 6 ∧ (t = 13 → 6 < 2) ∧ isR (tyN t 6) = true := List.forall_mem_singleton.mpr ⟨fo_X12_78_4, (fun h => absurd h (by decide)), rfl⟩
theorem fo_X12_81_4 : FOk RX12 81 4 5 := ⟨_, _, _, _, cls_X5, by decide, by decide, in_X5, Or.inr ⟨_, (List.mem_filter.mpr ⟨q281, rfl⟩)⟩, Or.inl rfl, tyX5_ok, nmX5⟩
theorem ga_X12_81 : ∀ t ∈ [4], FOk RX12 81 t 5 ∧ (t = 13 → 5 < 2) ∧ isR (tyN t 5) = true := List.forall_mem_singleton.mpr ⟨fo_X12_81_4, (fun h => absurd h (by decide)), rfl⟩
theorem ff_X12_10_5 : FFin RX12 10 5 false := ⟨_, _, _, cls_X12, rfl, fun h => by cases h⟩
theorem pa_X12_59 : ∀ t ∈ [10], FOk RX12 59 t 5 ∧ FFin RX12 t 5 false ∧ tyN t 5 = .int := List.forall_mem_singleton.mpr ⟨fo_X12_59_10, ff_X12_10_5, rfl⟩
theorem fo_X2_9_1 : FOk RX2 9 1 0 := ⟨_, _, _, _, cls_X2, by decide, by decide, in_X2, Or.inl q138, Or.inl rfl, tyX2_ok, nmX2⟩
theorem ff_X2_1_0 : FFin RX2 1 0 true := ⟨_, _, _, cls_X2, rfl, fun h => rfl⟩
theorem pa_X2_9 : ∀ t ∈ [1], FOk RX2 9 t 0 ∧ FFin RX2 t 0 true ∧ isR (tyN t 0) = true := List.forall_mem_singleton.mpr ⟨fo_X2_9_1, ff_X2_1_0, rfl⟩
theorem fo_X2_15_1 : FOk RX2 15 1 1 := ⟨_, _, _, _, cls_X2, by decide, by decide, in_X2, Or.inl q141, Or.inl rfl, tyX2_ok, nmX2⟩
theorem ff_X2_1_1 : FFin RX2 1 1 true := ⟨_, _, _, cls_X2, rfl, fun h => rfl⟩
theorem pa_X2_15 : ∀ t ∈ [1], FOk RX2 15 t 1 ∧ FFin RX2 t 1 true ∧ isR (tyN t 1) = true := List.forall_mem_singleton.mpr ⟨fo_X2_15_1, ff_X2_1_1, rfl⟩
theorem fo_X2_18_1 : FOk RX2 18 1 2 := ⟨_, _, _, _, cls_X2, by decide, by decide, in_X2, Or.inl q144, Or.inl rfl, tyX2_ok, nmX2⟩
theorem ga_X2_18 : ∀ t ∈ [1], FOk RX2 18 t 2 ∧ (t = 13 → 2 < 2) ∧ isI (tyN t 2) = true := List.forall_mem_singleton.mpr ⟨fo_X2_18_1, (fun h => absurd h (by decide)), rfl⟩
theorem ga_X2_9 : ∀ t ∈ [1], FOk RX2 9 t 0 ∧ (t = 13 → 0 < 2) ∧ isR (tyN t 0) = true := List.forall_mem_singleton.mpr ⟨fo_X2_9_1, (fun h => by decide), rfl⟩
theorem ga_X2_15 : ∀ t ∈ [1], FOk RX2 15 t 1 ∧ (t = 13 → 1 < 2) ∧ isR (tyN t 1) = true := List.forall_mem_singleton.mpr ⟨fo_X2_15_1, (fun h => by decide), rfl⟩
theorem ff_X2_1_2 : FFin RX2 1 2 false := ⟨_, _, _, cls_X2, rfl, fun h => by cases h⟩
theorem pa_X2_18 : ∀ t ∈ [1], FOk RX2 18 t 2 ∧ FFin RX2 t 2 false ∧ tyN t 2 = .int := List.forall_mem_singleton.mpr ⟨fo_X2_18_1, ff_X2_1_2, rfl⟩
theorem vl_X2_22 : ∀ t ∈ [1], ∃ (C : String) (T : u_T) (N : Nat), cls[t]? = some (C, T, N) ∧ t < 50 ∧ VLk RX2 22 C q_X2_add := List.forall_mem_singleton.mpr ⟨_, _, _, cls_X2, by decide, Or.inl ⟨q1326, q871⟩⟩
theorem vl_X2_30 : ∀ t ∈ [1], ∃ (C : String) (T : u_T) (N : Nat), cls[t]? = some (C, T, N) ∧ t < 50 ∧ VLk RX2 30 C q_X2_beyond := List.forall_mem_singleton.mpr ⟨_, _, _, cls_X2, by decide, Or.inl ⟨q1351, q1353⟩⟩
theorem vl_X2_26 : ∀ t ∈ [1], ∃ (C : String) (T : u_T) (N : Nat), cls[t]? = some (C, T, N) ∧ t < 50 ∧ VLk RX2 26 C q_X2_isLike := List.forall_mem_singleton.mpr ⟨_, _, _, cls_X2, by decide, Or.inl ⟨q1355, qs39⟩⟩
theorem fo_X3_9_2 : FOk RX3 9 2 5 := ⟨_, _, _, _, cls_X3, by decide, by decide, in_X3, Or.inl q168, Or.inl rfl, tyX3_ok, nmX3⟩
theorem ff_X3_2_5 : FFin RX3 2 5 true := ⟨_, _, _, cls_X3, rfl, fun h => rfl⟩
theorem pa_X3_9 : ∀ t ∈ [2], FOk RX3 9 t 5 ∧ FFin RX3 t 5 true ∧ isR (tyN t 5) = true := List.forall_mem_singleton.mpr ⟨fo_X3_9_2, ff_X3_2_5, rfl⟩
theorem fo_X3_15_2 : FOk RX3 15 2 6 := ⟨_, _, _, _, cls_X3, by decide, by decide, in_X3, Or.inl q169, Or.inl rfl, tyX3_ok, nmX3⟩
theorem ff_X3_2_6 : FFin RX3 2 6 true := ⟨_, _, _, cls_X3, rfl, fun h => rfl⟩
theorem pa_X3_15 : ∀ t ∈ [2], FOk RX3 15 t 6 ∧ FFin RX3 t 6 true ∧ isR (tyN t 6) = true := List.forall_mem_singleton.mpr ⟨fo_X3_15_2, ff_X3_2_6, rfl⟩
theorem fo_X3_18_2 : FOk RX3 18 2 7 := ⟨_, _, _, _, cls_X3, by decide, by decide, in_X3, Or.inl q170, Or.inl rfl, tyX3_ok, nmX3⟩
theorem ff_X3_2_7 : FFin RX3 2 7 true := ⟨_, _, _, cls_X3, rfl, fun h => rfl⟩
theorem pa_X3_18 : ∀ t ∈ [2], FOk RX3 18 t 7 ∧ FFin RX3 t 7 true ∧ isR (tyN t 7) = true := List.forall_mem_singleton.mpr ⟨fo_X3_18_2, ff_X3_2_7, rfl⟩
theorem fo_X3_25_2 : FOk RX3 25 2 0 := ⟨_, _, _, _, cls_X3, by decide, by decide, in_X3, Or.inl q163, Or.inl rfl, tyX3_ok, nmX3⟩
theorem ff_X3_2_0 : FFin RX3 2 0 false := ⟨_, _, _, cls_X3, rfl, fun h => by cases h⟩
theorem pa_X3_25 : ∀ t ∈ [2], FOk RX3 25 t 0 ∧ FFin RX3 t 0 false ∧ isR (tyN t 0) = true := List.forall_mem_singleton.mpr ⟨fo_X3_25_2, ff_X3_2_0, rfl⟩
theorem fo_X3_35_2 : FOk RX3 35 2 1 := ⟨_, _, _, _, cls_X3, by decide, by decide, in_X3, Or.inl q164, Or.inl rfl, tyX3_ok, nmX3⟩
theorem ff_X3_2_1 : FFin RX3 2 1 false := ⟨_, _, _, cls_X3, rfl, fun h => by cases h⟩
theorem pa_X3_35 : ∀ t ∈ [2], FOk RX3 35 t 1 ∧ FFin RX3 t 1 false ∧ tyN t 1 = .int := List.forall_mem_singleton.mpr ⟨fo_X3_35_2, ff_X3_2_1, rfl⟩
theorem fo_X3_124_2 : FOk RX3 124 2 3 := ⟨_, _, _, _, cls_X3, by decide, by decide, in_X3, Or.inl q166, Or.inl rfl, tyX3_ok, nmX3⟩
theorem ff_X3_2_3 : FFin RX3 2 3 false := ⟨_, _, _, cls_X3, rfl, fun h => by cases h⟩
theorem pa_X3_124 : ∀ t ∈ [2], FOk RX3 124 t 3 ∧ FFin RX3 t 3 false ∧ tyN t 3 = .int := List.forall_mem_singleton.mpr ⟨fo_X3_124_2, ff_X3_2_3, rfl⟩
theorem fo_X3_63_2 : FOk RX3 63 2 4 := ⟨_, _, _, _, cls_X3, by decide, by decide, in_X3, Or.inl q167, Or.inl rfl, tyX3_ok, nmX3⟩
theorem ff_X3_2_4 : FFin RX3 2 4 false := ⟨_, _, _, cls_X3, rfl, fun h => by cases h⟩
theorem pa_X3_63 : ∀ t ∈ [2], FOk RX3 63 t 4 ∧ FFin RX3 t 4 false ∧ isR (tyN t 4) = true := List.forall_mem_singleton.mpr ⟨fo_X3_63_2, ff_X3_2_4, rfl⟩
theorem vl_X3_130 : ∀ t ∈ [3], ∃ (C : String) (T : u_T) (N : Nat), cls[t]? = some (C, T, N) ∧ t < 50 ∧ VLk RX3 130 C q_X4_begin := List.forall_mem_singleton.mpr ⟨_, _, _, cls_X4, by decide, Or.inl ⟨q885, q887⟩⟩
theorem fo_X3_91_3 : FOk RX3 91 3 0 := ⟨_, _, _, _, cls_X4, by decide, by decide, in_X4, Or.inr ⟨_, (List.mem_filter.mpr ⟨q203, rfl⟩)⟩, Or.inl rfl, tyX4_ok, nmX4⟩
theorem ga_X3_91 : ∀ t ∈ [3], FOk RX3 91 t 0 ∧ (t = 13 → 0 < 2) ∧ isI (tyN t 0) = true := List.forall_mem_singleton.mpr ⟨fo_X3_91_3, (fun h => by decide), rfl⟩
theorem vl_X3_133 : ∀ t ∈ [2], ∃ (C : String) (T : u_T) (N : Nat), cls[t]? = some (C, T, N) ∧ t < 50 ∧ VLk RX3 133 C q_X3_giveCard := List.forall_mem_singleton.mpr ⟨_, _, _, cls_X3, by decide, Or.inl ⟨q889, qs5⟩⟩
theorem vl_X3_137 : ∀ t ∈ [2], ∃ (C : String) (T : u_T) (N : Nat), cls[t]? = some (C, T, N) ∧ t < 50 ∧ VLk RX3 137 C q_X3_settle := List.forall_mem_singleton.mpr ⟨_, _, _, cls_X3, by decide, Or.inl ⟨q896, qs6⟩⟩
theorem vl_X3_141 : ∀ t ∈ [2], ∃ (C : String) (T : u_T) (N : Nat), cls[t]? = some (C, T, N) ∧ t < 50 ∧ VLk RX3 141 C q_X3_breaks := List.forall_mem_singleton.mpr ⟨_, _, _, cls_X3, by decide, Or.inl ⟨q924, qs13⟩⟩
theorem vl_X3_84 : ∀ t ∈ [2], ∃ (C : String) (T : u_T) (N : Nat), cls[t]? = some (C, T, N) ∧ t < 50 ∧ VLk RX3 84 C q_X3_takes := List.forall_mem_singleton.mpr ⟨_, _, _, cls_X3, by decide, Or.inl ⟨q916, qs11⟩⟩
theorem vl_X3_145 : ∀ t ∈ [2], ∃ (C : String) (T : u_T) (N : Nat), cls[t]? = some (C, T, N) ∧ t < 50 ∧ VLk RX3 145 C q_X3_act := List.forall_mem_singleton.mpr ⟨_, _, _, cls_X3, by decide, Or.inl ⟨q928, qs14⟩⟩
theorem fo_X3_148_3 : FOk RX3 148 3 1 := ⟨_, _, _, _, cls_X4, by decide, by decide, in_X4, Or.inr ⟨_, (List.mem_filter.mpr ⟨q206, rfl⟩)⟩, Or.inl rfl, tyX4_ok, nmX4⟩
theorem ga_X3_148 : ∀ t ∈ [3], FOk RX3 148 t 1 ∧ (t = 13 → 1 < 2) ∧ isI (tyN t 1) = true := List.forall_mem_singleton.mpr ⟨fo_X3_148_3, (fun h => by decide), rfl⟩
theorem ff_X3_3_1 : FFin RX3 3 1 false := ⟨_, _, _, cls_X4, rfl, fun h => by cases h⟩
theorem pa_X3_148 : ∀ t ∈ [3], FOk RX3 148 t 1 ∧ FFin RX3 t 1 false ∧ tyN t 1 = .int := List.forall_mem_singleton.mpr ⟨fo_X3_148_3, ff_X3_3_1, rfl⟩
theorem vl_X3_151 : ∀ t ∈ [2], ∃ (C : String) (T : u_T) (N : Nat), cls[t]? = some (C, T, N) ∧ t < 50 ∧ VLk RX3 151 C q_X3_giveTotal := List.forall_mem_singleton.mpr ⟨_, _, _, cls_X3, by decide, Or.inl ⟨q950, qs18⟩⟩
theorem fo_X3_155_3 : FOk RX3 155 3 2 := ⟨_, _, _, _, cls_X4, by decide, by decide, in_X4, Or.inr ⟨_, (List.mem_filter.mpr ⟨q209, rfl⟩)⟩, Or.inl rfl, tyX4_ok, nmX4⟩
theorem ga_X3_155 : ∀ t ∈ [3], FOk RX3 155 t 2 ∧ (t = 13 → 2 < 2) ∧ isI (tyN t 2) = true := List.forall_mem_singleton.mpr ⟨fo_X3_155_3, (fun h => absurd h (by decide)), rfl⟩
theorem ff_X3_3_2 : FFin RX3 3 2 false := ⟨_, _, _, cls_X4, rfl, fun h => by cases h⟩
theorem pa_X3_155 : ∀ t ∈ [3], FOk RX3 155 t 2 ∧ FFin RX3 t 2 false ∧ tyN t 2 = .int := List.forall_mem_singleton.mpr ⟨fo_X3_155_3, ff_X3_3_2, rfl⟩
theorem ff_X3_3_0 : FFin RX3 3 0 false := ⟨_, _, _, cls_X4, rfl, fun h => by cases h⟩
theorem pa_X3_91 : ∀ t ∈ [3], FOk RX3 91 t 0 ∧ FFin RX3 t 0 false ∧ tyN t 0 = .int := List.forall_mem_singleton.mpr ⟨fo_X3_91_3, ff_X3_3_0, rfl⟩
theorem ga_X3_15 : ∀ t ∈ [2], FOk RX3 15 t 6 ∧ (t = 13 → 6 < 2) ∧ isR (tyN t 6) = true := List.forall_mem_singleton.mpr ⟨fo_X3_15_2, (fun h => absurd h (by decide)), rfl⟩
theorem fo_X3_48_2 : FOk RX3 48 2 2 := ⟨_, _, _, _, cls_X3, by decide, by decide, in_X3, Or.inl q165, Or.inl rfl, tyX3_ok, nmX3⟩
theorem ff_X3_2_2 : FFin RX3 2 2 false := ⟨_, _, _, cls_X3, rfl, fun h => by cases h⟩
theorem pa_X3_48 : ∀ t ∈ [2], FOk RX3 48 t 2 ∧ FFin RX3 t 2 false ∧ tyN t 2 = .int := List.forall_mem_singleton.mpr ⟨fo_X3_48_2, ff_X3_2_2, rfl⟩
theorem vl_X3_77 : ∀ t ∈ [2], ∃ (C : String) (T : u_T) (N : Nat), cls[t]? = some (C, T, N) ∧ t < 50 ∧ VLk RX3 77 C q_X3_joinNets := List.forall_mem_singleton.mpr ⟨_, _, _, cls_X3, by decide, Or.inl ⟨q900, qs7⟩⟩
theorem vl_X3_80 : ∀ t ∈ [2], ∃ (C : String) (T : u_T) (N : Nat), cls[t]? = some (C, T, N) ∧ t < 50 ∧ VLk RX3 80 C q_X3_seek := List.forall_mem_singleton.mpr ⟨_, _, _, cls_X3, by decide, Or.inl ⟨q912, qs10⟩⟩
theorem vl_X3_88 : ∀ t ∈ [2], ∃ (C : String) (T : u_T) (N : Nat), cls[t]? = some (C, T, N) ∧ t < 50 ∧ VLk RX3 88 C q_X3_take := List.forall_mem_singleton.mpr ⟨_, _, _, cls_X3, by decide, Or.inl ⟨q920, qs12⟩⟩
theorem ga_X3_63 : ∀ t ∈ [2], FOk RX3 63 t 4 ∧ (t = 13 → 4 < 2) ∧ isR (tyN t 4) = true := List.forall_mem_singleton.mpr ⟨fo_X3_63_2, (fun h => absurd h (by decide)), rfl⟩
theorem fo_X3_57_2 : FOk RX3 57 2 8 := ⟨_, _, _, _, cls_X3, by decide, by decide, in_X3, Or.inl q171, Or.inl rfl, tyX3_ok, nmX3⟩
theorem ga_X3_57 : ∀ t ∈ [2], FOk RX3 57 t 8 ∧ (t = 13 → 8 < 2) ∧ isI (tyN t 8) = true := List.forall_mem_singleton.mpr ⟨fo_X3_57_2, (fun h => absurd h (by decide)), rfl⟩
theorem fo_X3_94_3 : FOk RX3 94 3 6 := ⟨_, _, _, _, cls_X4, by decide, by decide, in_X4, Or.inr ⟨_, (List.mem_filter.mpr ⟨q221, rfl⟩)⟩, Or.inl rfl, tyX4_ok, nmX4⟩
theorem ff_X3_3_6 : FFin RX3 3 6 false := ⟨_, _, _, cls_X4, rfl, fun h => by cases h⟩
theorem pa_X3_94 : ∀ t ∈ [3], FOk RX3 94 t 6 ∧ FFin RX3 t 6 false ∧ tyN t 6 = .int := List.forall_mem_singleton.mpr ⟨fo_X3_94_3, ff_X3_3_6, rfl⟩
theorem fo_X3_60_2 : FOk RX3 60 2 9 := ⟨_, _, _, _, cls_X3, by decide, by decide, in_X3, Or.inl q172, Or.inl rfl, tyX3_ok, nmX3⟩
theorem ga_X3_60 : ∀ t ∈ [2], FOk RX3 60 t 9 ∧ (t = 13 → 9 < 2) ∧ isI (tyN t 9) = true := List.forall_mem_singleton.mpr ⟨fo_X3_60_2, (fun h => absurd h (by decide)), rfl⟩
theorem fo_X3_95_3 : FOk RX3 95 3 7 := ⟨_, _, _, _, cls_X4, by decide, by decide, in_X4, Or.inr ⟨_, (List.mem_filter.mpr ⟨q224, rfl⟩)⟩, Or.inl rfl, tyX4_ok, nmX4⟩
theorem ff_X3_3_7 : FFin RX3 3 7 false := ⟨_, _, _, cls_X4, rfl, fun h => by cases h⟩
theorem pa_X3_95 : ∀ t ∈ [3], FOk RX3 95 t 7 ∧ FFin RX3 t 7 false ∧ tyN t 7 = .int := List.forall_mem_singleton.mpr ⟨fo_X3_95_3, ff_X3_3_7, rfl⟩
theorem ga_X3_9 : ∀ t ∈ [2], FOk RX3 9 t 5 ∧ (t = 13 → 5 < 2) ∧ isR (tyN t 5) = true := List.forall_mem_singleton.mpr ⟨fo_X3_9_2, (fun h => absurd h (by decide)), rfl⟩
theorem ga_X3_25 : ∀ t ∈ [2], FOk RX3 25 t 0 ∧ (t = 13 → 0 < 2) ∧ isR (tyN t 0) = true := List.forall_mem_singleton.mpr ⟨fo_X3_25_2, (fun h => by decide), rfl⟩
theorem fo_X3_29_1 : FOk RX3 29 1 2 := ⟨_, _, _, _, cls_X2, by decide, by decide, in_X2, Or.inr ⟨_, (List.mem_filter.mpr ⟨q146, rfl⟩)⟩, Or.inl rfl, tyX2_ok, nmX2⟩
theorem ga_X3_29 : ∀ t ∈ [1], FOk RX3 29 t 2 ∧ (t = 13 → 2 < 2) ∧ isI (tyN t 2) = true := List.forall_mem_singleton.mpr ⟨fo_X3_29_1, (fun h => absurd h (by decide)), rfl⟩
theorem ga_X3_35 : ∀ t ∈ [2], FOk RX3 35 t 1 ∧ (t = 13 → 1 < 2) ∧ isI (tyN t 1) = true := List.forall_mem_singleton.mpr ⟨fo_X3_35_2, (fun h => by decide), rfl⟩
theorem fo_X3_38_1 : FOk RX3 38 1 0 := ⟨_, _, _, _, cls_X2, by decide, by decide, in_X2, Or.inr ⟨_, (List.mem_filter.mpr ⟨q139, rfl⟩)⟩, Or.inl rfl, tyX2_ok, nmX2⟩
theorem ga_X3_38 : ∀ t ∈ [1], FOk RX3 38 t 0 ∧ (t = 13 → 0 < 2) ∧ isR (tyN t 0) = true := List.forall_mem_singleton.mpr ⟨fo_X3_38_1, (fun h => by decide), rfl⟩
theorem fo_X3_41_1 : FOk RX3 41 1 1 := ⟨_, _, _, _, cls_X2, by decide, by decide, in_X2, Or.inr ⟨_, (List.mem_filter.mpr ⟨q142, rfl⟩)⟩, Or.inl rfl, tyX2_ok, nmX2⟩
theorem ga_X3_41 : ∀ t ∈ [1], FOk RX3 41 t 1 ∧ (t = 13 → 1 < 2) ∧ isR (tyN t 1) = true := List.forall_mem_singleton.mpr ⟨fo_X3_41_1, (fun h => by decide), rfl⟩
theorem vl_X3_44 : ∀ t ∈ [2], ∃ (C : String) (T : u_T) (N : Nat), cls[t]? = some (C, T, N) ∧ t < 50 ∧ VLk RX3 44 C q_X3_join := List.forall_mem_singleton.mpr ⟨_, _, _, cls_X3, by decide, Or.inl ⟨q904, qs8⟩⟩
theorem ga_X3_48 : ∀ t ∈ [2], FOk RX3 48 t 2 ∧ (t = 13 → 2 < 2) ∧ isI (tyN t 2) = true := List.forall_mem_singleton.mpr ⟨fo_X3_48_2, (fun h => absurd h (by decide)), rfl⟩
theorem vl_X3_21 : ∀ t ∈ [2], ∃ (C : String) (T : u_T) (N : Nat), cls[t]? = some (C, T, N) ∧ t < 50 ∧ VLk RX3 21 C q_X3_root := List.forall_mem_singleton.mpr ⟨_, _, _, cls_X3, by decide, Or.inl ⟨q908, qs9⟩⟩
theorem ga_X3_18 : ∀ t ∈ [2], FOk RX3 18 t 7 ∧ (t = 13 → 7 < 2) ∧ isR (tyN t 7) = true := List.forall_mem_singleton.mpr ⟨fo_X3_18_2, (fun h => absurd h (by decide)), rfl⟩
theorem ff_X3_2_8 : FFin RX3 2 8 false := ⟨_, _, _, cls_X3, rfl, fun h => by cases h⟩
theorem pa_X3_57 : ∀ t ∈ [2], FOk RX3 57 t 8 ∧ FFin RX3 t 8 false ∧ tyN t 8 = .int := List.forall_mem_singleton.mpr ⟨fo_X3_57_2, ff_X3_2_8, rfl⟩
theorem ff_X3_2_9 : FFin RX3 2 9 false := ⟨_, _, _, cls_X3, rfl, fun h => by cases h⟩
theorem pa_X3_60 : ∀ t ∈ [2], FOk RX3 60 t 9 ∧ FFin RX3 t 9 false ∧ tyN t 9 = .int := List.forall_mem_singleton.mpr ⟨fo_X3_60_2, ff_X3_2_9, rfl⟩
theorem vl_X3_96 : ∀ t ∈ [2], ∃ (C : String) (T : u_T) (N : Nat), cls[t]? = some (C, T, N) ∧ t < 50 ∧ VLk RX3 96 C q_X3_print := List.forall_mem_singleton.mpr ⟨_, _, _, cls_X3, by decide, Or.inl ⟨q932, qs15⟩⟩
theorem vl_X3_99 : ∀ t ∈ [2], ∃ (C : String) (T : u_T) (N : Nat), cls[t]? = some (C, T, N) ∧ t < 50 ∧ VLk RX3 99 C q_X3_count := List.forall_mem_singleton.mpr ⟨_, _, _, cls_X3, by decide, Or.inl ⟨q936, qs16⟩⟩
theorem vl_X3_102 : ∀ t ∈ [2], ∃ (C : String) (T : u_T) (N : Nat), cls[t]? = some (C, T, N) ∧ t < 50 ∧ VLk RX3 102 C q_X3_punch := List.forall_mem_singleton.mpr ⟨_, _, _, cls_X3, by decide, Or.inl ⟨q946, qs17⟩⟩
theorem fo_X3_105_3 : FOk RX3 105 3 3 := ⟨_, _, _, _, cls_X4, by decide, by decide, in_X4, Or.inr ⟨_, (List.mem_filter.mpr ⟨q212, rfl⟩)⟩, Or.inl rfl, tyX4_ok, nmX4⟩
theorem ga_X3_105 : ∀ t ∈ [3], FOk RX3 105 t 3 ∧ (t = 13 → 3 < 2) ∧ isI (tyN t 3) = true := List.forall_mem_singleton.mpr ⟨fo_X3_105_3, (fun h => absurd h (by decide)), rfl⟩
theorem fo_X3_108_3 : FOk RX3 108 3 8 := ⟨_, _, _, _, cls_X4, by decide, by decide, in_X4, Or.inr ⟨_, (List.mem_filter.mpr ⟨q227, rfl⟩)⟩, Or.inl rfl, tyX4_ok, nmX4⟩
theorem ga_X3_108 : ∀ t ∈ [3], FOk RX3 108 t 8 ∧ (t = 13 → 8 < 2) ∧ isR (tyN t 8) = true := List.forall_mem_singleton.mpr ⟨fo_X3_108_3, (fun h => absurd h (by decide)), rfl⟩
theorem ff_X3_3_3 : FFin RX3 3 3 false := ⟨_, _, _, cls_X4, rfl, fun h => by cases h⟩
theorem pa_X3_105 : ∀ t ∈ [3], FOk RX3 105 t 3 ∧ FFin RX3 t 3 false ∧ tyN t 3 = .int := List.forall_mem_singleton.mpr ⟨fo_X3_105_3, ff_X3_3_3, rfl⟩
theorem fo_X3_67_3 : FOk RX3 67 3 10 := ⟨_, _, _, _, cls_X4, by decide, by decide, in_X4, Or.inr ⟨_, (List.mem_filter.mpr ⟨q233, rfl⟩)⟩, Or.inl rfl, tyX4_ok, nmX4⟩
theorem ga_X3_67 : ∀ t ∈ [3], FOk RX3 67 t 10 ∧ (t = 13 → 10 < 2) ∧ isR (tyN t 10) = true := List.forall_mem_singleton.mpr ⟨fo_X3_67_3, (fun h => absurd h (by decide)), rfl⟩
theorem fo_X3_117_3 : FOk RX3 117 3 5 := ⟨_, _, _, _, cls_X4, by decide, by decide, in_X4, Or.inr ⟨_, (List.mem_filter.mpr ⟨q218, rfl⟩)⟩, Or.inl rfl, tyX4_ok, nmX4⟩
theorem ga_X3_117 : ∀ t ∈ [3], FOk RX3 117 t 5 ∧ (t = 13 → 5 < 2) ∧ isI (tyN t 5) = true := List.forall_mem_singleton.mpr ⟨fo_X3_117_3, (fun h => absurd h (by decide)), rfl⟩
theorem ff_X3_3_5 : FFin RX3 3 5 false := ⟨_, _, _, cls_X4, rfl, fun h => by cases h⟩
theorem pa_X3_117 : ∀ t ∈ [3], FOk RX3 117 t 5 ∧ FFin RX3 t 5 false ∧ tyN t 5 = .int := List.forall_mem_singleton.mpr ⟨fo_X3_117_3, ff_X3_3_5, rfl⟩
theorem fo_X3_121_3 : FOk RX3 121 3 4 := ⟨_, _, _, _, cls_X4, by decide, by decide, in_X4, Or.inr ⟨_, (List.mem_filter.mpr ⟨q215, rfl⟩)⟩, Or.inl rfl, tyX4_ok, nmX4⟩
theorem ga_X3_121 : ∀ t ∈ [3], FOk RX3 121 t 4 ∧ (t = 13 → 4 < 2) ∧ isI (tyN t 4) = true := List.forall_mem_singleton.mpr ⟨fo_X3_121_3, (fun h => absurd h (by decide)), rfl⟩
theorem ga_X3_124 : ∀ t ∈ [2], FOk RX3 124 t 3 ∧ (t = 13 → 3 < 2) ∧ isI (tyN t 3) = true := List.forall_mem_singleton.mpr ⟨fo_X3_124_2, (fun h => absurd h (by decide)), rfl⟩
theorem fo_X3_127_3 : FOk RX3 127 3 9 := ⟨_, _, _, _, cls_X4, by decide, by decide, in_X4, Or.inr ⟨_, (List.mem_filter.mpr ⟨q230, rfl⟩)⟩, Or.inl rfl, tyX4_ok, nmX4⟩
theorem ga_X3_127 : ∀ t ∈ [3], FOk RX3 127 t 9 ∧ (t = 13 → 9 < 2) ∧ isR (tyN t 9) = true := List.forall_mem_singleton.mpr ⟨fo_X3_127_3, (fun h => absurd h (by decide)), rfl⟩
theorem ff_X3_3_4 : FFin RX3 3 4 false := ⟨_, _, _, cls_X4, rfl, fun h => by cases h⟩
theorem pa_X3_121 : ∀ t ∈ [3], FOk RX3 121 t 4 ∧ FFin RX3 t 4 false ∧ tyN t 4 = .int := List.forall_mem_singleton.mpr ⟨fo_X3_121_3, ff_X3_3_4, rfl⟩
theorem fo_X4_11_3 : FOk RX4 11 3 8 := ⟨_, _, _, _, cls_X4, by decide, by decide, in_X4, Or.inl q226, Or.inl rfl, tyX4_ok, nmX4⟩
theorem ff_X4_3_8 : FFin RX4 3 8 true := ⟨_, _, _, cls_X4, rfl, fun h => rfl⟩
theorem pa_X4_11 : ∀ t ∈ [3], FOk RX4 11 t 8 ∧ FFin RX4 t 8 true ∧ isR (tyN t 8) = true := List.forall_mem_singleton.mpr ⟨fo_X4_11_3, ff_X4_3_8, rfl⟩
theorem fo_X4_16_3 : FOk RX4 16 3 9 := ⟨_, _, _, _, cls_X4, by decide, by decide, in_X4, Or.inl q229, Or.inl rfl, tyX4_ok, nmX4⟩
theorem ff_X4_3_9 : FFin RX4 3 9 true := ⟨_, _, _, cls_X4, rfl, fun h => rfl⟩
theorem pa_X4_16 : ∀ t ∈ [3], FOk RX4 16 t 9 ∧ FFin RX4 t 9 true ∧ isR (tyN t 9) = true := List.forall_mem_singleton.mpr ⟨fo_X4_16_3, ff_X4_3_9, rfl⟩
theorem fo_X4_19_3 : FOk RX4 19 3 10 := ⟨_, _, _, _, cls_X4, by decide, by decide, in_X4, Or.inl q232, Or.inl rfl, tyX4_ok, nmX4⟩
theorem ff_X4_3_10 : FFin RX4 3 10 true := ⟨_, _, _, cls_X4, rfl, fun h => rfl⟩
theorem pa_X4_19 : ∀ t ∈ [3], FOk RX4 19 t 10 ∧ FFin RX4 t 10 true ∧ isR (tyN t 10) = true := List.forall_mem_singleton.mpr ⟨fo_X4_19_3, ff_X4_3_10, rfl⟩
theorem fo_X4_23_3 : FOk RX4 23 3 0 := ⟨_, _, _, _, cls_X4, by decide, by decide, in_X4, Or.inl q202, Or.inl rfl, tyX4_ok, nmX4⟩
theorem ff_X4_3_0 : FFin RX4 3 0 false := ⟨_, _, _, cls_X4, rfl, fun h => by cases h⟩
theorem pa_X4_23 : ∀ t ∈ [3], FOk RX4 23 t 0 ∧ FFin RX4 t 0 false ∧ tyN t 0 = .int := List.forall_mem_singleton.mpr ⟨fo_X4_23_3, ff_X4_3_0, rfl⟩
theorem fo_X4_27_3 : FOk RX4 27 3 1 := ⟨_, _, _, _, cls_X4, by decide, by decide, in_X4, Or.inl q205, Or.inl rfl, tyX4_ok, nmX4⟩
theorem ff_X4_3_1 : FFin RX4 3 1 false := ⟨_, _, _, cls_X4, rfl, fun h => by cases h⟩
theorem pa_X4_27 : ∀ t ∈ [3], FOk RX4 27 t 1 ∧ FFin RX4 t 1 false ∧ tyN t 1 = .int := List.forall_mem_singleton.mpr ⟨fo_X4_27_3, ff_X4_3_1, rfl⟩
theorem fo_X4_30_3 : FOk RX4 30 3 2 := ⟨_, _, _, _, cls_X4, by decide, by decide, in_X4, Or.inl q208, Or.inl rfl, tyX4_ok, nmX4⟩
theorem ff_X4_3_2 : FFin RX4 3 2 false := ⟨_, _, _, cls_X4, rfl, fun h => by cases h⟩
theorem pa_X4_30 : ∀ t ∈ [3], FOk RX4 30 t 2 ∧ FFin RX4 t 2 false ∧ tyN t 2 = .int := List.forall_mem_singleton.mpr ⟨fo_X4_30_3, ff_X4_3_2, rfl⟩
theorem fo_X4_33_3 : FOk RX4 33 3 3 := ⟨_, _, _, _, cls_X4, by decide, by decide, in_X4, Or.inl q211, Or.inl rfl, tyX4_ok, nmX4⟩
theorem ff_X4_3_3 : FFin RX4 3 3 false := ⟨_, _, _, cls_X4, rfl, fun h => by cases h⟩
theorem pa_X4_33 : ∀ t ∈ [3], FOk RX4 33 t 3 ∧ FFin RX4 t 3 false ∧ tyN t 3 = .int := List.forall_mem_singleton.mpr ⟨fo_X4_33_3, ff_X4_3_3, rfl⟩
theorem fo_X4_36_3 : FOk RX4 36 3 4 := ⟨_, _, _, _, cls_X4, by decide, by decide, in_X4, Or.inl q214, Or.inl rfl, tyX4_ok, nmX4⟩
theorem ff_X4_3_4 : FFin RX4 3 4 false := ⟨_, _, _, cls_X4, rfl, fun h => by cases h⟩
theorem pa_X4_36 : ∀ t ∈ [3], FOk RX4 36 t 4 ∧ FFin RX4 t 4 false ∧ tyN t 4 = .int := List.forall_mem_singleton.mpr ⟨fo_X4_36_3, ff_X4_3_4, rfl⟩
theorem fo_X4_39_3 : FOk RX4 39 3 5 := ⟨_, _, _, _, cls_X4, by decide, by decide, in_X4, Or.inl q217, Or.inl rfl, tyX4_ok, nmX4⟩
theorem ff_X4_3_5 : FFin RX4 3 5 false := ⟨_, _, _, cls_X4, rfl, fun h => by cases h⟩
theorem pa_X4_39 : ∀ t ∈ [3], FOk RX4 39 t 5 ∧ FFin RX4 t 5 false ∧ tyN t 5 = .int := List.forall_mem_singleton.mpr ⟨fo_X4_39_3, ff_X4_3_5, rfl⟩
theorem fo_X4_42_3 : FOk RX4 42 3 6 := ⟨_, _, _, _, cls_X4, by decide, by decide, in_X4, Or.inl q220, Or.inl rfl, tyX4_ok, nmX4⟩
theorem ff_X4_3_6 : FFin RX4 3 6 false := ⟨_, _, _, cls_X4, rfl, fun h => by cases h⟩
theorem pa_X4_42 : ∀ t ∈ [3], FOk RX4 42 t 6 ∧ FFin RX4 t 6 false ∧ tyN t 6 = .int := List.forall_mem_singleton.mpr ⟨fo_X4_42_3, ff_X4_3_6, rfl⟩
theorem fo_X4_45_3 : FOk RX4 45 3 7 := ⟨_, _, _, _, cls_X4, by decide, by decide, in_X4, Or.inl q223, Or.inl rfl, tyX4_ok, nmX4⟩
theorem ff_X4_3_7 : FFin RX4 3 7 false := ⟨_, _, _, cls_X4, rfl, fun h => by cases h⟩
theorem pa_X4_45 : ∀ t ∈ [3], FOk RX4 45 t 7 ∧ FFin RX4 t 7 false ∧ tyN t 7 = .int := List.forall_mem_singleton.mpr ⟨fo_X4_45_3, ff_X4_3_7, rfl⟩
theorem ga_X4_19 : ∀ t ∈ [3], FOk RX4 19 t 10 ∧ (t = 13 → 10 < 2) ∧ isR (tyN t 10) = true := List.forall_mem_singleton.mpr ⟨fo_X4_19_3, (fun h => absurd h (by decide)), rfl⟩
theorem ga_X4_23 : ∀ t ∈ [3], FOk RX4 23 t 0 ∧ (t = 13 → 0 < 2) ∧ isI (tyN t 0) = true := List.forall_mem_singleton.mpr ⟨fo_X4_23_3, (fun h => by decide), rfl⟩
theorem ga_X4_36 : ∀ t ∈ [3], FOk RX4 36 t 4 ∧ (t = 13 → 4 < 2) ∧ isI (tyN t 4) = true := List.forall_mem_singleton.mpr ⟨fo_X4_36_3, (fun h => absurd h (by decide)), rfl⟩
theorem vl_X4_52 : ∀ t ∈ [3], ∃ (C : String) (T : u_T) (N : Nat), cls[t]? = some (C, T, N) ∧ t < 50 ∧ VLk RX4 52 C q_X4_printsLike := List.forall_mem_singleton.mpr ⟨_, _, _, cls_X4, by decide, Or.inl ⟨q980, q982⟩⟩
theorem ga_X4_16 : ∀ t ∈ [3], FOk RX4 16 t 9 ∧ (t = 13 → 9 < 2) ∧ isR (tyN t 9) = true := List.forall_mem_singleton.mpr ⟨fo_X4_16_3, (fun h => absurd h (by decide)), rfl⟩
theorem ga_X4_33 : ∀ t ∈ [3], FOk RX4 33 t 3 ∧ (t = 13 → 3 < 2) ∧ isI (tyN t 3) = true := List.forall_mem_singleton.mpr ⟨fo_X4_33_3, (fun h => absurd h (by decide)), rfl⟩
theorem ga_X4_11 : ∀ t ∈ [3], FOk RX4 11 t 8 ∧ (t = 13 → 8 < 2) ∧ isR (tyN t 8) = true := List.forall_mem_singleton.mpr ⟨fo_X4_11_3, (fun h => absurd h (by decide)), rfl⟩
theorem fo_X5_13_4 : FOk RX5 13 4 0 := ⟨_, _, _, _, cls_X5, by decide, by decide, in_X5, Or.inl q266, Or.inl rfl, tyX5_ok, nmX5⟩
theorem ff_X5_4_0 : FFin RX5 4 0 true := ⟨_, _, _, cls_X5, rfl, fun h => rfl⟩
theorem pa_X5_13 : ∀ t ∈ [4], FOk RX5 13 t 0 ∧ FFin RX5 t 0 true ∧ isR (tyN t 0) = true := List.forall_mem_singleton.mpr ⟨fo_X5_13_4, ff_X5_4_0, rfl⟩
theorem fo_X5_17_4 : FOk RX5 17 4 1 := ⟨_, _, _, _, cls_X5, by decide, by decide, in_X5, Or.inl q268, Or.inl rfl, tyX5_ok, nmX5⟩
theorem ff_X5_4_1 : FFin RX5 4 1 true := ⟨_, _, _, cls_X5, rfl, fun h => rfl⟩
theorem pa_X5_17 : ∀ t ∈ [4], FOk RX5 17 t 1 ∧ FFin RX5 t 1 true ∧ isR (tyN t 1) = true := List.forall_mem_singleton.mpr ⟨fo_X5_17_4, ff_X5_4_1, rfl⟩
theorem fo_X5_21_4 : FOk RX5 21 4 2 := ⟨_, _, _, _, cls_X5, by decide, by decide, in_X5, Or.inl q271, Or.inl rfl, tyX5_ok, nmX5⟩
theorem ff_X5_4_2 : FFin RX5 4 2 true := ⟨_, _, _, cls_X5, rfl, fun h => rfl⟩
theorem pa_X5_21 : ∀ t ∈ [4], FOk RX5 21 t 2 ∧ FFin RX5 t 2 true ∧ isR (tyN t 2) = true := List.forall_mem_singleton.mpr ⟨fo_X5_21_4, ff_X5_4_2, rfl⟩
theorem fo_X5_24_4 : FOk RX5 24 4 3 := ⟨_, _, _, _, cls_X5, by decide, by decide, in_X5, Or.inl q274, Or.inl rfl, tyX5_ok, nmX5⟩
theorem ff_X5_4_3 : FFin RX5 4 3 true := ⟨_, _, _, cls_X5, rfl, fun h => rfl⟩
theorem pa_X5_24 : ∀ t ∈ [4], FOk RX5 24 t 3 ∧ FFin RX5 t 3 true ∧ isR (tyN t 3) = true := List.forall_mem_singleton.mpr ⟨fo_X5_24_4, ff_X5_4_3, rfl⟩
theorem fo_X5_27_4 : FOk RX5 27 4 4 := ⟨_, _, _, _, cls_X5, by decide, by decide, in_X5, Or.inl q277, Or.inl rfl, tyX5_ok, nmX5⟩
theorem ff_X5_4_4 : FFin RX5 4 4 true := ⟨_, _, _, cls_X5, rfl, fun h => rfl⟩
theorem pa_X5_27 : ∀ t ∈ [4], FOk RX5 27 t 4 ∧ FFin RX5 t 4 true ∧ isR (tyN t 4) = true := List.forall_mem_singleton.mpr ⟨fo_X5_27_4, ff_X5_4_4, rfl⟩
theorem fo_X5_30_4 : FOk RX5 30 4 5 := ⟨_, _, _, _, cls_X5, by decide, by decide, in_X5, Or.inl q280, Or.inl rfl, tyX5_ok, nmX5⟩
theorem ff_X5_4_5 : FFin RX5 4 5 true := ⟨_, _, _, cls_X5, rfl, fun h => rfl⟩
theorem pa_X5_30 : ∀ t ∈ [4], FOk RX5 30 t 5 ∧ FFin RX5 t 5 true ∧ isR (tyN t 5) = true := List.forall_mem_singleton.mpr ⟨fo_X5_30_4, ff_X5_4_5, rfl⟩
theorem fo_X5_33_4 : FOk RX5 33 4 6 := ⟨_, _, _, _, cls_X5, by decide, by decide, in_X5, Or.inl q284, Or.inl rfl, tyX5_ok, nmX5⟩
theorem ff_X5_4_6 : FFin RX5 4 6 true := ⟨_, _, _, cls_X5, rfl, fun h => rfl⟩
theorem pa_X5_33 : ∀ t ∈ [4], FOk RX5 33 t 6 ∧ FFin RX5 t 6 true ∧ isR (tyN t 6) = true := List.forall_mem_singleton.mpr ⟨fo_X5_33_4, ff_X5_4_6, rfl⟩
theorem fo_X5_36_4 : FOk RX5 36 4 7 := ⟨_, _, _, _, cls_X5, by decide, by decide, in_X5, Or.inl q288, Or.inl rfl, tyX5_ok, nmX5⟩
theorem ff_X5_4_7 : FFin RX5 4 7 true := ⟨_, _, _, cls_X5, rfl, fun h => rfl⟩
theorem pa_X5_36 : ∀ t ∈ [4], FOk RX5 36 t 7 ∧ FFin RX5 t 7 true ∧ isR (tyN t 7) = true := List.forall_mem_singleton.mpr ⟨fo_X5_36_4, ff_X5_4_7, rfl⟩
theorem fo_X5_39_4 : FOk RX5 39 4 8 := ⟨_, _, _, _, cls_X5, by decide, by decide, in_X5, Or.inl q291, Or.inl rfl, tyX5_ok, nmX5⟩
theorem ga_X5_39 : ∀ t ∈ [4], FOk RX5 39 t 8 ∧ (t = 13 → 8 < 2) ∧ isI (tyN t 8) = true := List.forall_mem_singleton.mpr ⟨fo_X5_39_4, (fun h => absurd h (by decide)), rfl⟩
theorem ga_X5_13 : ∀ t ∈ [4], FOk RX5 13 t 0 ∧ (t = 13 → 0 < 2) ∧ isR (tyN t 0) = true := List.forall_mem_singleton.mpr ⟨fo_X5_13_4, (fun h => by decide), rfl⟩
theorem vl_X5_43 : ∀ t ∈ [13], ∃ (C : String) (T : u_T) (N : Nat), cls[t]? = some (C, T, N) ∧ t < 50 ∧ VLk RX5 43 C q_J8_equals := List.forall_mem_singleton.mpr ⟨_, _, _, cls_J8, by decide, Or.inl ⟨q1161, q772⟩⟩
theorem ga_X5_27 : ∀ t ∈ [4], FOk RX5 27 t 4 ∧ (t = 13 → 4 < 2) ∧ isR (tyN t 4) = true := List.forall_mem_singleton.mpr ⟨fo_X5_27_4, (fun h => absurd h (by decide)), rfl⟩
theorem ga_X5_17 : ∀ t ∈ [4], FOk RX5 17 t 1 ∧ (t = 13 → 1 < 2) ∧ isR (tyN t 1) = true := List.forall_mem_singleton.mpr ⟨fo_X5_17_4, (fun h => by decide), rfl⟩
theorem ga_X5_21 : ∀ t ∈ [4], FOk RX5 21 t 2 ∧ (t = 13 → 2 < 2) ∧ isR (tyN t 2) = true := List.forall_mem_singleton.mpr ⟨fo_X5_21_4, (fun h => absurd h (by decide)), rfl⟩
theorem ga_X5_36 : ∀ t ∈ [4], FOk RX5 36 t 7 ∧ (t = 13 → 7 < 2) ∧ isR (tyN t 7) = true := List.forall_mem_singleton.mpr ⟨fo_X5_36_4, (fun h => absurd h (by decide)), rfl⟩
theorem ga_X5_24 : ∀ t ∈ [4], FOk RX5 24 t 3 ∧ (t = 13 → 3 < 2) ∧ isR (tyN t 3) = true := List.forall_mem_singleton.mpr ⟨fo_X5_24_4, (fun h => absurd h (by decide)), rfl⟩
theorem fo_X6_11_5 : FOk RX6 11 5 0 := ⟨_, _, _, _, cls_X6, by decide, by decide, in_X6, Or.inl q326, Or.inl rfl, tyX6_ok, nmX6⟩
theorem ff_X6_5_0 : FFin RX6 5 0 true := ⟨_, _, _, cls_X6, rfl, fun h => rfl⟩
theorem pa_X6_11 : ∀ t ∈ [5], FOk RX6 11 t 0 ∧ FFin RX6 t 0 true ∧ isR (tyN t 0) = true := List.forall_mem_singleton.mpr ⟨fo_X6_11_5, ff_X6_5_0, rfl⟩
theorem fo_X7_7_6 : FOk RX7 7 6 1 := ⟨_, _, _, _, cls_X7, by decide, by decide, in_X7, Or.inl q1438, Or.inl rfl, tyX7_ok, nmX7⟩
theorem ff_X7_6_1 : FFin RX7 6 1 true := ⟨_, _, _, cls_X7, rfl, fun h => rfl⟩
theorem pa_X7_7 : ∀ t ∈ [6], FOk RX7 7 t 1 ∧ FFin RX7 t 1 true ∧ isR (tyN t 1) = true := List.forall_mem_singleton.mpr ⟨fo_X7_7_6, ff_X7_6_1, rfl⟩
theorem fo_X7_13_6 : FOk RX7 13 6 5 := ⟨_, _, _, _, cls_X7, by decide, by decide, in_X7, Or.inl q1442, Or.inl rfl, tyX7_ok, nmX7⟩
theorem ff_X7_6_5 : FFin RX7 6 5 true := ⟨_, _, _, cls_X7, rfl, fun h => rfl⟩
theorem pa_X7_13 : ∀ t ∈ [6], FOk RX7 13 t 5 ∧ FFin RX7 t 5 true ∧ isR (tyN t 5) = true := List.forall_mem_singleton.mpr ⟨fo_X7_13_6, ff_X7_6_5, rfl⟩
theorem fo_X7_17_6 : FOk RX7 17 6 6 := ⟨_, _, _, _, cls_X7, by decide, by decide, in_X7, Or.inl q1443, Or.inl rfl, tyX7_ok, nmX7⟩
theorem ff_X7_6_6 : FFin RX7 6 6 true := ⟨_, _, _, cls_X7, rfl, fun h => rfl⟩
theorem pa_X7_17 : ∀ t ∈ [6], FOk RX7 17 t 6 ∧ FFin RX7 t 6 true ∧ isR (tyN t 6) = true := List.forall_mem_singleton.mpr ⟨fo_X7_17_6, ff_X7_6_6, rfl⟩
theorem fo_X7_20_6 : FOk RX7 20 6 15 := ⟨_, _, _, _, cls_X7, by decide, by decide, in_X7, Or.inl q1452, Or.inl rfl, tyX7_ok, nmX7⟩
theorem ff_X7_6_15 : FFin RX7 6 15 true := ⟨_, _, _, cls_X7, rfl, fun h => rfl⟩
theorem pa_X7_20 : ∀ t ∈ [6], FOk RX7 20 t 15 ∧ FFin RX7 t 15 true ∧ isR (tyN t 15) = true := List.forall_mem_singleton.mpr ⟨fo_X7_20_6, ff_X7_6_15, rfl⟩
theorem fo_X7_23_6 : FOk RX7 23 6 16 := ⟨_, _, _, _, cls_X7, by decide, by decide, in_X7, Or.inl q1453, Or.inl rfl, tyX7_ok, nmX7⟩
theorem ff_X7_6_16 : FFin RX7 6 16 true := ⟨_, _, _, cls_X7, rfl, fun h => rfl⟩
theorem pa_X7_23 : ∀ t ∈ [6], FOk RX7 23 t 16 ∧ FFin RX7 t 16 true ∧ isR (tyN t 16) = true := List.forall_mem_singleton.mpr ⟨fo_X7_23_6, ff_X7_6_16, rfl⟩
theorem fo_X7_26_6 : FOk RX7 26 6 17 := ⟨_, _, _, _, cls_X7, by decide, by decide, in_X7, Or.inl q1454, Or.inl rfl, tyX7_ok, nmX7⟩
theorem ff_X7_6_17 : FFin RX7 6 17 true := ⟨_, _, _, cls_X7, rfl, fun h => rfl⟩
theorem pa_X7_26 : ∀ t ∈ [6], FOk RX7 26 t 17 ∧ FFin RX7 t 17 true ∧ isR (tyN t 17) = true := List.forall_mem_singleton.mpr ⟨fo_X7_26_6, ff_X7_6_17, rfl⟩
theorem fo_X7_29_6 : FOk RX7 29 6 18 := ⟨_, _, _, _, cls_X7, by decide, by decide, in_X7, Or.inl q1455, Or.inl rfl, tyX7_ok, nmX7⟩
theorem ff_X7_6_18 : FFin RX7 6 18 true := ⟨_, _, _, cls_X7, rfl, fun h => rfl⟩
theorem pa_X7_29 : ∀ t ∈ [6], FOk RX7 29 t 18 ∧ FFin RX7 t 18 true ∧ isR (tyN t 18) = true := List.forall_mem_singleton.mpr ⟨fo_X7_29_6, ff_X7_6_18, rfl⟩
theorem fo_X7_32_6 : FOk RX7 32 6 19 := ⟨_, _, _, _, cls_X7, by decide, by decide, in_X7, Or.inl q1456, Or.inl rfl, tyX7_ok, nmX7⟩
theorem ff_X7_6_19 : FFin RX7 6 19 true := ⟨_, _, _, cls_X7, rfl, fun h => rfl⟩
theorem pa_X7_32 : ∀ t ∈ [6], FOk RX7 32 t 19 ∧ FFin RX7 t 19 true ∧ isR (tyN t 19) = true := List.forall_mem_singleton.mpr ⟨fo_X7_32_6, ff_X7_6_19, rfl⟩
theorem fo_X7_36_6 : FOk RX7 36 6 23 := ⟨_, _, _, _, cls_X7, by decide, by decide, in_X7, Or.inl q1460, Or.inl rfl, tyX7_ok, nmX7⟩
theorem ff_X7_6_23 : FFin RX7 6 23 true := ⟨_, _, _, cls_X7, rfl, fun h => rfl⟩
theorem pa_X7_36 : ∀ t ∈ [6], FOk RX7 36 t 23 ∧ FFin RX7 t 23 true ∧ isR (tyN t 23) = true := List.forall_mem_singleton.mpr ⟨fo_X7_36_6, ff_X7_6_23, rfl⟩
theorem fo_X7_39_6 : FOk RX7 39 6 24 := ⟨_, _, _, _, cls_X7, by decide, by decide, in_X7, Or.inl q1461, Or.inl rfl, tyX7_ok, nmX7⟩
theorem ff_X7_6_24 : FFin RX7 6 24 true := ⟨_, _, _, cls_X7, rfl, fun h => rfl⟩
theorem pa_X7_39 : ∀ t ∈ [6], FOk RX7 39 t 24 ∧ FFin RX7 t 24 true ∧ isR (tyN t 24) = true := List.forall_mem_singleton.mpr ⟨fo_X7_39_6, ff_X7_6_24, rfl⟩
theorem fo_X7_42_6 : FOk RX7 42 6 25 := ⟨_, _, _, _, cls_X7, by decide, by decide, in_X7, Or.inl q1462, Or.inl rfl, tyX7_ok, nmX7⟩
theorem ff_X7_6_25 : FFin RX7 6 25 true := ⟨_, _, _, cls_X7, rfl, fun h => rfl⟩
theorem pa_X7_42 : ∀ t ∈ [6], FOk RX7 42 t 25 ∧ FFin RX7 t 25 true ∧ isR (tyN t 25) = true := List.forall_mem_singleton.mpr ⟨fo_X7_42_6, ff_X7_6_25, rfl⟩
theorem fo_X7_45_6 : FOk RX7 45 6 26 := ⟨_, _, _, _, cls_X7, by decide, by decide, in_X7, Or.inl q1463, Or.inl rfl, tyX7_ok, nmX7⟩
theorem ff_X7_6_26 : FFin RX7 6 26 true := ⟨_, _, _, cls_X7, rfl, fun h => rfl⟩
theorem pa_X7_45 : ∀ t ∈ [6], FOk RX7 45 t 26 ∧ FFin RX7 t 26 true ∧ isR (tyN t 26) = true := List.forall_mem_singleton.mpr ⟨fo_X7_45_6, ff_X7_6_26, rfl⟩
theorem fo_X7_48_6 : FOk RX7 48 6 27 := ⟨_, _, _, _, cls_X7, by decide, by decide, in_X7, Or.inl q1464, Or.inl rfl, tyX7_ok, nmX7⟩
theorem ff_X7_6_27 : FFin RX7 6 27 true := ⟨_, _, _, cls_X7, rfl, fun h => rfl⟩
theorem pa_X7_48 : ∀ t ∈ [6], FOk RX7 48 t 27 ∧ FFin RX7 t 27 true ∧ isR (tyN t 27) = true := List.forall_mem_singleton.mpr ⟨fo_X7_48_6, ff_X7_6_27, rfl⟩
theorem fo_X7_51_6 : FOk RX7 51 6 28 := ⟨_, _, _, _, cls_X7, by decide, by decide, in_X7, Or.inl q1465, Or.inl rfl, tyX7_ok, nmX7⟩
theorem ff_X7_6_28 : FFin RX7 6 28 true := ⟨_, _, _, cls_X7, rfl, fun h => rfl⟩
theorem pa_X7_51 : ∀ t ∈ [6], FOk RX7 51 t 28 ∧ FFin RX7 t 28 true ∧ isR (tyN t 28) = true := List.forall_mem_singleton.mpr ⟨fo_X7_51_6, ff_X7_6_28, rfl⟩
theorem fo_X7_54_6 : FOk RX7 54 6 29 := ⟨_, _, _, _, cls_X7, by decide, by decide, in_X7, Or.inl q1466, Or.inl rfl, tyX7_ok, nmX7⟩
theorem ff_X7_6_29 : FFin RX7 6 29 true := ⟨_, _, _, cls_X7, rfl, fun h => rfl⟩
theorem pa_X7_54 : ∀ t ∈ [6], FOk RX7 54 t 29 ∧ FFin RX7 t 29 true ∧ isR (tyN t 29) = true := List.forall_mem_singleton.mpr ⟨fo_X7_54_6, ff_X7_6_29, rfl⟩
theorem fo_X7_57_6 : FOk RX7 57 6 30 := ⟨_, _, _, _, cls_X7, by decide, by decide, in_X7, Or.inl q1467, Or.inl rfl, tyX7_ok, nmX7⟩
theorem ff_X7_6_30 : FFin RX7 6 30 true := ⟨_, _, _, cls_X7, rfl, fun h => rfl⟩
theorem pa_X7_57 : ∀ t ∈ [6], FOk RX7 57 t 30 ∧ FFin RX7 t 30 true ∧ isR (tyN t 30) = true := List.forall_mem_singleton.mpr ⟨fo_X7_57_6, ff_X7_6_30, rfl⟩
theorem fo_X7_60_6 : FOk RX7 60 6 31 := ⟨_, _, _, _, cls_X7, by decide, by decide, in_X7, Or.inl q1468, Or.inl rfl, tyX7_ok, nmX7⟩
theorem ff_X7_6_31 : FFin RX7 6 31 true := ⟨_, _, _, cls_X7, rfl, fun h => rfl⟩
theorem pa_X7_60 : ∀ t ∈ [6], FOk RX7 60 t 31 ∧ FFin RX7 t 31 true ∧ isR (tyN t 31) = true := List.forall_mem_singleton.mpr ⟨fo_X7_60_6, ff_X7_6_31, rfl⟩
theorem fo_X7_63_6 : FOk RX7 63 6 32 := ⟨_, _, _, _, cls_X7, by decide, by decide, in_X7, Or.inl q1469, Or.inl rfl, tyX7_ok, nmX7⟩
theorem ff_X7_6_32 : FFin RX7 6 32 true := ⟨_, _, _, cls_X7, rfl, fun h => rfl⟩
theorem pa_X7_63 : ∀ t ∈ [6], FOk RX7 63 t 32 ∧ FFin RX7 t 32 true ∧ isR (tyN t 32) = true := List.forall_mem_singleton.mpr ⟨fo_X7_63_6, ff_X7_6_32, rfl⟩
theorem fo_X7_66_6 : FOk RX7 66 6 33 := ⟨_, _, _, _, cls_X7, by decide, by decide, in_X7, Or.inl q1470, Or.inl rfl, tyX7_ok, nmX7⟩
theorem ff_X7_6_33 : FFin RX7 6 33 true := ⟨_, _, _, cls_X7, rfl, fun h => rfl⟩
theorem pa_X7_66 : ∀ t ∈ [6], FOk RX7 66 t 33 ∧ FFin RX7 t 33 true ∧ isR (tyN t 33) = true := List.forall_mem_singleton.mpr ⟨fo_X7_66_6, ff_X7_6_33, rfl⟩
theorem fo_X7_69_6 : FOk RX7 69 6 34 := ⟨_, _, _, _, cls_X7, by decide, by decide, in_X7, Or.inl q1471, Or.inl rfl, tyX7_ok, nmX7⟩
theorem ff_X7_6_34 : FFin RX7 6 34 true := ⟨_, _, _, cls_X7, rfl, fun h => rfl⟩
theorem pa_X7_69 : ∀ t ∈ [6], FOk RX7 69 t 34 ∧ FFin RX7 t 34 true ∧ isR (tyN t 34) = true := List.forall_mem_singleton.mpr ⟨fo_X7_69_6, ff_X7_6_34, rfl⟩
theorem fo_X7_72_6 : FOk RX7 72 6 35 := ⟨_, _, _, _, cls_X7, by decide, by decide, in_X7, Or.inl q1472, Or.inl rfl, tyX7_ok, nmX7⟩
theorem ff_X7_6_35 : FFin RX7 6 35 true := ⟨_, _, _, cls_X7, rfl, fun h => rfl⟩
theorem pa_X7_72 : ∀ t ∈ [6], FOk RX7 72 t 35 ∧ FFin RX7 t 35 true ∧ isR (tyN t 35) = true := List.forall_mem_singleton.mpr ⟨fo_X7_72_6, ff_X7_6_35, rfl⟩
theorem fo_X7_75_6 : FOk RX7 75 6 36 := ⟨_, _, _, _, cls_X7, by decide, by decide, in_X7, Or.inl q1473, Or.inl rfl, tyX7_ok, nmX7⟩
theorem ff_X7_6_36 : FFin RX7 6 36 true := ⟨_, _, _, cls_X7, rfl, fun h => rfl⟩
theorem pa_X7_75 : ∀ t ∈ [6], FOk RX7 75 t 36 ∧ FFin RX7 t 36 true ∧ isR (tyN t 36) = true := List.forall_mem_singleton.mpr ⟨fo_X7_75_6, ff_X7_6_36, rfl⟩
theorem fo_X7_78_6 : FOk RX7 78 6 37 := ⟨_, _, _, _, cls_X7, by decide, by decide, in_X7, Or.inl q1474, Or.inl rfl, tyX7_ok, nmX7⟩
theorem ff_X7_6_37 : FFin RX7 6 37 true := ⟨_, _, _, cls_X7, rfl, fun h => rfl⟩
theorem pa_X7_78 : ∀ t ∈ [6], FOk RX7 78 t 37 ∧ FFin RX7 t 37 true ∧ isR (tyN t 37) = true := List.forall_mem_singleton.mpr ⟨fo_X7_78_6, ff_X7_6_37, rfl⟩
theorem fo_X7_81_6 : FOk RX7 81 6 38 := ⟨_, _, _, _, cls_X7, by decide, by decide, in_X7, Or.inl q1475, Or.inl rfl, tyX7_ok, nmX7⟩
theorem ff_X7_6_38 : FFin RX7 6 38 true := ⟨_, _, _, cls_X7, rfl, fun h => rfl⟩
theorem pa_X7_81 : ∀ t ∈ [6], FOk RX7 81 t 38 ∧ FFin RX7 t 38 true ∧ isR (tyN t 38) = true := List.forall_mem_singleton.mpr ⟨fo_X7_81_6, ff_X7_6_38, rfl⟩
theorem fo_X7_84_6 : FOk RX7 84 6 39 := ⟨_, _, _, _, cls_X7, by decide, by decide, in_X7, Or.inl q1476, Or.inl rfl, tyX7_ok, nmX7⟩
theorem ff_X7_6_39 : FFin RX7 6 39 true := ⟨_, _, _, cls_X7, rfl, fun h => rfl⟩
theorem pa_X7_84 : ∀ t ∈ [6], FOk RX7 84 t 39 ∧ FFin RX7 t 39 true ∧ isR (tyN t 39) = true := List.forall_mem_singleton.mpr ⟨fo_X7_84_6, ff_X7_6_39, rfl⟩
theorem fo_X7_87_6 : FOk RX7 87 6 40 := ⟨_, _, _, _, cls_X7, by decide, by decide, in_X7, Or.inl q1477, Or.inl rfl, tyX7_ok, nmX7⟩
theorem ff_X7_6_40 : FFin RX7 6 40 true := ⟨_, _, _, cls_X7, rfl, fun h => rfl⟩
theorem pa_X7_87 : ∀ t ∈ [6], FOk RX7 87 t 40 ∧ FFin RX7 t 40 true ∧ isR (tyN t 40) = true := List.forall_mem_singleton.mpr ⟨fo_X7_87_6, ff_X7_6_40, rfl⟩
theorem fo_X7_90_6 : FOk RX7 90 6 45 := ⟨_, _, _, _, cls_X7, by decide, by decide, in_X7, Or.inl q1482, Or.inl rfl, tyX7_ok, nmX7⟩
theorem ff_X7_6_45 : FFin RX7 6 45 true := ⟨_, _, _, cls_X7, rfl, fun h => rfl⟩
theorem pa_X7_90 : ∀ t ∈ [6], FOk RX7 90 t 45 ∧ FFin RX7 t 45 true ∧ isR (tyN t 45) = true := List.forall_mem_singleton.mpr ⟨fo_X7_90_6, ff_X7_6_45, rfl⟩
theorem fo_X7_93_6 : FOk RX7 93 6 46 := ⟨_, _, _, _, cls_X7, by decide, by decide, in_X7, Or.inl q1483, Or.inl rfl, tyX7_ok, nmX7⟩
theorem ff_X7_6_46 : FFin RX7 6 46 true := ⟨_, _, _, cls_X7, rfl, fun h => rfl⟩
theorem pa_X7_93 : ∀ t ∈ [6], FOk RX7 93 t 46 ∧ FFin RX7 t 46 true ∧ isR (tyN t 46) = true := List.forall_mem_singleton.mpr ⟨fo_X7_93_6, ff_X7_6_46, rfl⟩
theorem fo_X7_96_6 : FOk RX7 96 6 48 := ⟨_, _, _, _, cls_X7, by decide, by decide, in_X7, Or.inl q1485, Or.inl rfl, tyX7_ok, nmX7⟩
theorem ff_X7_6_48 : FFin RX7 6 48 true := ⟨_, _, _, cls_X7, rfl, fun h => rfl⟩
theorem pa_X7_96 : ∀ t ∈ [6], FOk RX7 96 t 48 ∧ FFin RX7 t 48 true ∧ isR (tyN t 48) = true := List.forall_mem_singleton.mpr ⟨fo_X7_96_6, ff_X7_6_48, rfl⟩
theorem fo_X7_99_6 : FOk RX7 99 6 49 := ⟨_, _, _, _, cls_X7, by decide, by decide, in_X7, Or.inl q1486, Or.inl rfl, tyX7_ok, nmX7⟩
theorem ff_X7_6_49 : FFin RX7 6 49 true := ⟨_, _, _, cls_X7, rfl, fun h => rfl⟩
theorem pa_X7_99 : ∀ t ∈ [6], FOk RX7 99 t 49 ∧ FFin RX7 t 49 true ∧ isR (tyN t 49) = true := List.forall_mem_singleton.mpr ⟨fo_X7_99_6, ff_X7_6_49, rfl⟩
theorem fo_X7_102_6 : FOk RX7 102 6 50 := ⟨_, _, _, _, cls_X7, by decide, by decide, in_X7, Or.inl q1487, Or.inl rfl, tyX7_ok, nmX7⟩
theorem ff_X7_6_50 : FFin RX7 6 50 true := ⟨_, _, _, cls_X7, rfl, fun h => rfl⟩
theorem pa_X7_102 : ∀ t ∈ [6], FOk RX7 102 t 50 ∧ FFin RX7 t 50 true ∧ isR (tyN t 50) = true := List.forall_mem_singleton.mpr ⟨fo_X7_102_6, ff_X7_6_50, rfl⟩
theorem fo_X7_105_6 : FOk RX7 105 6 51 := ⟨_, _, _, _, cls_X7, by decide, by decide, in_X7, Or.inl q1488, Or.inl rfl, tyX7_ok, nmX7⟩
theorem ff_X7_6_51 : FFin RX7 6 51 true := ⟨_, _, _, cls_X7, rfl, fun h => rfl⟩
theorem pa_X7_105 : ∀ t ∈ [6], FOk RX7 105 t 51 ∧ FFin RX7 t 51 true ∧ isR (tyN t 51) = true := List.forall_mem_singleton.mpr ⟨fo_X7_105_6, ff_X7_6_51, rfl⟩
theorem fo_X7_108_6 : FOk RX7 108 6 52 := ⟨_, _, _, _, cls_X7, by decide, by decide, in_X7, Or.inl q1489, Or.inl rfl, tyX7_ok, nmX7⟩
theorem ff_X7_6_52 : FFin RX7 6 52 true := ⟨_, _, _, cls_X7, rfl, fun h => rfl⟩
theorem pa_X7_108 : ∀ t ∈ [6], FOk RX7 108 t 52 ∧ FFin RX7 t 52 true ∧ isR (tyN t 52) = true := List.forall_mem_singleton.mpr ⟨fo_X7_108_6, ff_X7_6_52, rfl⟩
theorem fo_X7_112_6 : FOk RX7 112 6 58 := ⟨_, _, _, _, cls_X7, by decide, by decide, in_X7, Or.inl q1495, Or.inl rfl, tyX7_ok, nmX7⟩
theorem ff_X7_6_58 : FFin RX7 6 58 true := ⟨_, _, _, cls_X7, rfl, fun h => rfl⟩
theorem pa_X7_112 : ∀ t ∈ [6], FOk RX7 112 t 58 ∧ FFin RX7 t 58 true ∧ isR (tyN t 58) = true := List.forall_mem_singleton.mpr ⟨fo_X7_112_6, ff_X7_6_58, rfl⟩
theorem fo_X7_115_6 : FOk RX7 115 6 59 := ⟨_, _, _, _, cls_X7, by decide, by decide, in_X7, Or.inl q1496, Or.inl rfl, tyX7_ok, nmX7⟩
theorem ff_X7_6_59 : FFin RX7 6 59 true := ⟨_, _, _, cls_X7, rfl, fun h => rfl⟩
theorem pa_X7_115 : ∀ t ∈ [6], FOk RX7 115 t 59 ∧ FFin RX7 t 59 true ∧ isR (tyN t 59) = true := List.forall_mem_singleton.mpr ⟨fo_X7_115_6, ff_X7_6_59, rfl⟩
theorem fo_X7_118_6 : FOk RX7 118 6 60 := ⟨_, _, _, _, cls_X7, by decide, by decide, in_X7, Or.inl q1497, Or.inl rfl, tyX7_ok, nmX7⟩
theorem ff_X7_6_60 : FFin RX7 6 60 true := ⟨_, _, _, cls_X7, rfl, fun h => rfl⟩
theorem pa_X7_118 : ∀ t ∈ [6], FOk RX7 118 t 60 ∧ FFin RX7 t 60 true ∧ isR (tyN t 60) = true := List.forall_mem_singleton.mpr ⟨fo_X7_118_6, ff_X7_6_60, rfl⟩
theorem fo_X7_121_6 : FOk RX7 121 6 62 := ⟨_, _, _, _, cls_X7, by decide, by decide, in_X7, Or.inl q1499, Or.inl rfl, tyX7_ok, nmX7⟩
theorem ff_X7_6_62 : FFin RX7 6 62 true := ⟨_, _, _, cls_X7, rfl, fun h => rfl⟩
theorem pa_X7_121 : ∀ t ∈ [6], FOk RX7 121 t 62 ∧ FFin RX7 t 62 true ∧ isR (tyN t 62) = true := List.forall_mem_singleton.mpr ⟨fo_X7_121_6, ff_X7_6_62, rfl⟩
theorem fo_X7_124_6 : FOk RX7 124 6 63 := ⟨_, _, _, _, cls_X7, by decide, by decide, in_X7, Or.inl q1500, Or.inl rfl, tyX7_ok, nmX7⟩
theorem ff_X7_6_63 : FFin RX7 6 63 true := ⟨_, _, _, cls_X7, rfl, fun h => rfl⟩
theorem pa_X7_124 : ∀ t ∈ [6], FOk RX7 124 t 63 ∧ FFin RX7 t 63 true ∧ isR (tyN t 63) = true := List.forall_mem_singleton.mpr ⟨fo_X7_124_6, ff_X7_6_63, rfl⟩
theorem fo_X7_127_6 : FOk RX7 127 6 64 := ⟨_, _, _, _, cls_X7, by decide, by decide, in_X7, Or.inl q1501, Or.inl rfl, tyX7_ok, nmX7⟩
theorem ff_X7_6_64 : FFin RX7 6 64 true := ⟨_, _, _, cls_X7, rfl, fun h => rfl⟩
theorem pa_X7_127 : ∀ t ∈ [6], FOk RX7 127 t 64 ∧ FFin RX7 t 64 true ∧ isR (tyN t 64) = true := List.forall_mem_singleton.mpr ⟨fo_X7_127_6, ff_X7_6_64, rfl⟩
theorem fo_X7_130_6 : FOk RX7 130 6 65 := ⟨_, _, _, _, cls_X7, by decide, by decide, in_X7, Or.inl q1502, Or.inl rfl, tyX7_ok, nmX7⟩
theorem ff_X7_6_65 : FFin RX7 6 65 true := ⟨_, _, _, cls_X7, rfl, fun h => rfl⟩
theorem pa_X7_130 : ∀ t ∈ [6], FOk RX7 130 t 65 ∧ FFin RX7 t 65 true ∧ isR (tyN t 65) = true := List.forall_mem_singleton.mpr ⟨fo_X7_130_6, ff_X7_6_65, rfl⟩
theorem fo_X7_133_6 : FOk RX7 133 6 66 := ⟨_, _, _, _, cls_X7, by decide, by decide, in_X7, Or.inl q1503, Or.inl rfl, tyX7_ok, nmX7⟩
theorem ff_X7_6_66 : FFin RX7 6 66 true := ⟨_, _, _, cls_X7, rfl, fun h => rfl⟩
theorem pa_X7_133 : ∀ t ∈ [6], FOk RX7 133 t 66 ∧ FFin RX7 t 66 true ∧ isR (tyN t 66) = true := List.forall_mem_singleton.mpr ⟨fo_X7_133_6, ff_X7_6_66, rfl⟩
theorem fo_X7_136_6 : FOk RX7 136 6 67 := ⟨_, _, _, _, cls_X7, by decide, by decide, in_X7, Or.inl q1504, Or.inl rfl, tyX7_ok, nmX7⟩
theorem ff_X7_6_67 : FFin RX7 6 67 true := ⟨_, _, _, cls_X7, rfl, fun h => rfl⟩
theorem pa_X7_136 : ∀ t ∈ [6], FOk RX7 136 t 67 ∧ FFin RX7 t 67 true ∧ isR (tyN t 67) = true := List.forall_mem_singleton.mpr ⟨fo_X7_136_6, ff_X7_6_67, rfl⟩
theorem fo_X7_139_6 : FOk RX7 139 6 68 := ⟨_, _, _, _, cls_X7, by decide, by decide, in_X7, Or.inl q1505, Or.inl rfl, tyX7_ok, nmX7⟩
theorem ff_X7_6_68 : FFin RX7 6 68 true := ⟨_, _, _, cls_X7, rfl, fun h => rfl⟩
theorem pa_X7_139 : ∀ t ∈ [6], FOk RX7 139 t 68 ∧ FFin RX7 t 68 true ∧ isR (tyN t 68) = true := List.forall_mem_singleton.mpr ⟨fo_X7_139_6, ff_X7_6_68, rfl⟩
theorem fo_X7_142_6 : FOk RX7 142 6 69 := ⟨_, _, _, _, cls_X7, by decide, by decide, in_X7, Or.inl q1506, Or.inl rfl, tyX7_ok, nmX7⟩
theorem ff_X7_6_69 : FFin RX7 6 69 true := ⟨_, _, _, cls_X7, rfl, fun h => rfl⟩
theorem pa_X7_142 : ∀ t ∈ [6], FOk RX7 142 t 69 ∧ FFin RX7 t 69 true ∧ isR (tyN t 69) = true := List.forall_mem_singleton.mpr ⟨fo_X7_142_6, ff_X7_6_69, rfl⟩
theorem fo_X7_145_6 : FOk RX7 145 6 70 := ⟨_, _, _, _, cls_X7, by decide, by decide, in_X7, Or.inl q1507, Or.inl rfl, tyX7_ok, nmX7⟩
theorem ff_X7_6_70 : FFin RX7 6 70 true := ⟨_, _, _, cls_X7, rfl, fun h => rfl⟩
theorem pa_X7_145 : ∀ t ∈ [6], FOk RX7 145 t 70 ∧ FFin RX7 t 70 true ∧ isR (tyN t 70) = true := List.forall_mem_singleton.mpr ⟨fo_X7_145_6, ff_X7_6_70, rfl⟩
theorem fo_X7_148_6 : FOk RX7 148 6 71 := ⟨_, _, _, _, cls_X7, by decide, by decide, in_X7, Or.inl q1508, Or.inl rfl, tyX7_ok, nmX7⟩
theorem ff_X7_6_71 : FFin RX7 6 71 true := ⟨_, _, _, cls_X7, rfl, fun h => rfl⟩
theorem pa_X7_148 : ∀ t ∈ [6], FOk RX7 148 t 71 ∧ FFin RX7 t 71 true ∧ isR (tyN t 71) = true := List.forall_mem_singleton.mpr ⟨fo_X7_148_6, ff_X7_6_71, rfl⟩
theorem fo_X7_151_6 : FOk RX7 151 6 72 := ⟨_, _, _, _, cls_X7, by decide, by decide, in_X7, Or.inl q1509, Or.inl rfl, tyX7_ok, nmX7⟩
theorem ff_X7_6_72 : FFin RX7 6 72 true := ⟨_, _, _, cls_X7, rfl, fun h => rfl⟩
theorem pa_X7_151 : ∀ t ∈ [6], FOk RX7 151 t 72 ∧ FFin RX7 t 72 true ∧ isR (tyN t 72) = true := List.forall_mem_singleton.mpr ⟨fo_X7_151_6, ff_X7_6_72, rfl⟩
theorem fo_X7_154_6 : FOk RX7 154 6 73 := ⟨_, _, _, _, cls_X7, by decide, by decide, in_X7, Or.inl q1510, Or.inl rfl, tyX7_ok, nmX7⟩
theorem ff_X7_6_73 : FFin RX7 6 73 true := ⟨_, _, _, cls_X7, rfl, fun h => rfl⟩
theorem pa_X7_154 : ∀ t ∈ [6], FOk RX7 154 t 73 ∧ FFin RX7 t 73 true ∧ isR (tyN t 73) = true := List.forall_mem_singleton.mpr ⟨fo_X7_154_6, ff_X7_6_73, rfl⟩
theorem fo_X7_157_6 : FOk RX7 157 6 74 := ⟨_, _, _, _, cls_X7, by decide, by decide, in_X7, Or.inl q1511, Or.inl rfl, tyX7_ok, nmX7⟩
theorem ff_X7_6_74 : FFin RX7 6 74 true := ⟨_, _, _, cls_X7, rfl, fun h => rfl⟩
theorem pa_X7_157 : ∀ t ∈ [6], FOk RX7 157 t 74 ∧ FFin RX7 t 74 true ∧ isR (tyN t 74) = true := List.forall_mem_singleton.mpr ⟨fo_X7_157_6, ff_X7_6_74, rfl⟩
theorem fo_X7_160_6 : FOk RX7 160 6 75 := ⟨_, _, _, _, cls_X7, by decide, by decide, in_X7, Or.inl q1512, Or.inl rfl, tyX7_ok, nmX7⟩
theorem ff_X7_6_75 : FFin RX7 6 75 true := ⟨_, _, _, cls_X7, rfl, fun h => rfl⟩
theorem pa_X7_160 : ∀ t ∈ [6], FOk RX7 160 t 75 ∧ FFin RX7 t 75 true ∧ isR (tyN t 75) = true := List.forall_mem_singleton.mpr ⟨fo_X7_160_6, ff_X7_6_75, rfl⟩
theorem fo_X7_163_6 : FOk RX7 163 6 76 := ⟨_, _, _, _, cls_X7, by decide, by decide, in_X7, Or.inl q1513, Or.inl rfl, tyX7_ok, nmX7⟩
theorem ff_X7_6_76 : FFin RX7 6 76 true := ⟨_, _, _, cls_X7, rfl, fun h => rfl⟩
theorem pa_X7_163 : ∀ t ∈ [6], FOk RX7 163 t 76 ∧ FFin RX7 t 76 true ∧ isR (tyN t 76) = true := List.forall_mem_singleton.mpr ⟨fo_X7_163_6, ff_X7_6_76, rfl⟩
theorem fo_X7_166_6 : FOk RX7 166 6 77 := ⟨_, _, _, _, cls_X7, by decide, by decide, in_X7, Or.inl q1514, Or.inl rfl, tyX7_ok, nmX7⟩
theorem ff_X7_6_77 : FFin RX7 6 77 true := ⟨_, _, _, cls_X7, rfl, fun h => rfl⟩
theorem pa_X7_166 : ∀ t ∈ [6], FOk RX7 166 t 77 ∧ FFin RX7 t 77 true ∧ isR (tyN t 77) = true := List.forall_mem_singleton.mpr ⟨fo_X7_166_6, ff_X7_6_77, rfl⟩
theorem fo_X7_169_6 : FOk RX7 169 6 78 := ⟨_, _, _, _, cls_X7, by decide, by decide, in_X7, Or.inl q1515, Or.inl rfl, tyX7_ok, nmX7⟩
theorem ff_X7_6_78 : FFin RX7 6 78 true := ⟨_, _, _, cls_X7, rfl, fun h => rfl⟩
theorem pa_X7_169 : ∀ t ∈ [6], FOk RX7 169 t 78 ∧ FFin RX7 t 78 true ∧ isR (tyN t 78) = true := List.forall_mem_singleton.mpr ⟨fo_X7_169_6, ff_X7_6_78, rfl⟩
theorem fo_X7_172_6 : FOk RX7 172 6 82 := ⟨_, _, _, _, cls_X7, by decide, by decide, in_X7, Or.inl q1519, Or.inl rfl, tyX7_ok, nmX7⟩
theorem ff_X7_6_82 : FFin RX7 6 82 true := ⟨_, _, _, cls_X7, rfl, fun h => rfl⟩
theorem pa_X7_172 : ∀ t ∈ [6], FOk RX7 172 t 82 ∧ FFin RX7 t 82 true ∧ isR (tyN t 82) = true := List.forall_mem_singleton.mpr ⟨fo_X7_172_6, ff_X7_6_82, rfl⟩
theorem fo_X7_175_6 : FOk RX7 175 6 83 := ⟨_, _, _, _, cls_X7, by decide, by decide, in_X7, Or.inl q1520, Or.inl rfl, tyX7_ok, nmX7⟩
theorem ff_X7_6_83 : FFin RX7 6 83 true := ⟨_, _, _, cls_X7, rfl, fun h => rfl⟩
theorem pa_X7_175 : ∀ t ∈ [6], FOk RX7 175 t 83 ∧ FFin RX7 t 83 true ∧ isR (tyN t 83) = true := List.forall_mem_singleton.mpr ⟨fo_X7_175_6, ff_X7_6_83, rfl⟩
theorem fo_X7_178_6 : FOk RX7 178 6 87 := ⟨_, _, _, _, cls_X7, by decide, by decide, in_X7, Or.inl q1524, Or.inl rfl, tyX7_ok, nmX7⟩
theorem ff_X7_6_87 : FFin RX7 6 87 true := ⟨_, _, _, cls_X7, rfl, fun h => rfl⟩
theorem pa_X7_178 : ∀ t ∈ [6], FOk RX7 178 t 87 ∧ FFin RX7 t 87 true ∧ isR (tyN t 87) = true := List.forall_mem_singleton.mpr ⟨fo_X7_178_6, ff_X7_6_87, rfl⟩
theorem fo_X7_181_6 : FOk RX7 181 6 88 := ⟨_, _, _, _, cls_X7, by decide, by decide, in_X7, Or.inl q1525, Or.inl rfl, tyX7_ok, nmX7⟩
theorem ff_X7_6_88 : FFin RX7 6 88 true := ⟨_, _, _, cls_X7, rfl, fun h => rfl⟩
theorem pa_X7_181 : ∀ t ∈ [6], FOk RX7 181 t 88 ∧ FFin RX7 t 88 true ∧ isR (tyN t 88) = true := List.forall_mem_singleton.mpr ⟨fo_X7_181_6, ff_X7_6_88, rfl⟩
theorem fo_X7_184_6 : FOk RX7 184 6 89 := ⟨_, _, _, _, cls_X7, by decide, by decide, in_X7, Or.inl q1526, Or.inl rfl, tyX7_ok, nmX7⟩
theorem ff_X7_6_89 : FFin RX7 6 89 true := ⟨_, _, _, cls_X7, rfl, fun h => rfl⟩
theorem pa_X7_184 : ∀ t ∈ [6], FOk RX7 184 t 89 ∧ FFin RX7 t 89 true ∧ isR (tyN t 89) = true := List.forall_mem_singleton.mpr ⟨fo_X7_184_6, ff_X7_6_89, rfl⟩
theorem fo_X7_187_6 : FOk RX7 187 6 91 := ⟨_, _, _, _, cls_X7, by decide, by decide, in_X7, Or.inl q1528, Or.inl rfl, tyX7_ok, nmX7⟩
theorem ff_X7_6_91 : FFin RX7 6 91 true := ⟨_, _, _, cls_X7, rfl, fun h => rfl⟩
theorem pa_X7_187 : ∀ t ∈ [6], FOk RX7 187 t 91 ∧ FFin RX7 t 91 true ∧ isR (tyN t 91) = true := List.forall_mem_singleton.mpr ⟨fo_X7_187_6, ff_X7_6_91, rfl⟩
theorem fo_X7_190_6 : FOk RX7 190 6 0 := ⟨_, _, _, _, cls_X7, by decide, by decide, in_X7, Or.inl q1437, Or.inl rfl, tyX7_ok, nmX7⟩
theorem ga_X7_190 : ∀ t ∈ [6], FOk RX7 190 t 0 ∧ (t = 13 → 0 < 2) ∧ isI (tyN t 0) = true := List.forall_mem_singleton.mpr ⟨fo_X7_190_6, (fun h => by decide), rfl⟩
theorem ff_X7_6_0 : FFin RX7 6 0 false := ⟨_, _, _, cls_X7, rfl, fun h => by cases h⟩
theorem pa_X7_190 : ∀ t ∈ [6], FOk RX7 190 t 0 ∧ FFin RX7 t 0 false ∧ tyN t 0 = .int := List.forall_mem_singleton.mpr ⟨fo_X7_190_6, ff_X7_6_0, rfl⟩
theorem fo_X7_194_6 : FOk RX7 194 6 2 := ⟨_, _, _, _, cls_X7, by decide, by decide, in_X7, Or.inl q1439, Or.inl rfl, tyX7_ok, nmX7⟩
theorem ga_X7_194 : ∀ t ∈ [6], FOk RX7 194 t 2 ∧ (t = 13 → 2 < 2) ∧ isI (tyN t 2) = true := List.forall_mem_singleton.mpr ⟨fo_X7_194_6, (fun h => absurd h (by decide)), rfl⟩
theorem vl_X7_197 : ∀ t ∈ [6], ∃ (C : String) (T : u_T) (N : Nat), cls[t]? = some (C, T, N) ∧ t < 50 ∧ VLk RX7 197 C q_X7_four := List.forall_mem_singleton.mpr ⟨_, _, _, cls_X7, by decide, Or.inl ⟨q1722, qs42⟩⟩
theorem ga_X7_7 : ∀ t ∈ [6], FOk RX7 7 t 1 ∧ (t = 13 → 1 < 2) ∧ isR (tyN t 1) = true := List.forall_mem_singleton.mpr ⟨fo_X7_7_6, (fun h => by decide), rfl⟩
theorem ff_X7_6_2 : FFin RX7 6 2 false := ⟨_, _, _, cls_X7, rfl, fun h => by cases h⟩
theorem pa_X7_194 : ∀ t ∈ [6], FOk RX7 194 t 2 ∧ FFin RX7 t 2 false ∧ tyN t 2 = .int := List.forall_mem_singleton.mpr ⟨fo_X7_194_6, ff_X7_6_2, rfl⟩
theorem vl_X7_211 : ∀ t ∈ [6], ∃ (C : String) (T : u_T) (N : Nat), cls[t]? = some (C, T, N) ∧ t < 50 ∧ VLk RX7 211 C q_X7_taken := List.forall_mem_singleton.mpr ⟨_, _, _, cls_X7, by decide, Or.inl ⟨q1734, qs43⟩⟩
theorem ga_X7_17 : ∀ t ∈ [6], FOk RX7 17 t 6 ∧ (t = 13 → 6 < 2) ∧ isR (tyN t 6) = true := List.forall_mem_singleton.mpr ⟨fo_X7_17_6, (fun h => absurd h (by decide)), rfl⟩
theorem fo_X7_201_6 : FOk RX7 201 6 3 := ⟨_, _, _, _, cls_X7, by decide, by decide, in_X7, Or.inl q1440, Or.inl rfl, tyX7_ok, nmX7⟩
theorem ga_X7_201 : ∀ t ∈ [6], FOk RX7 201 t 3 ∧ (t = 13 → 3 < 2) ∧ isI (tyN t 3) = true := List.forall_mem_singleton.mpr ⟨fo_X7_201_6, (fun h => absurd h (by decide)), rfl⟩
theorem vl_X7_218 : ∀ t ∈ [6], ∃ (C : String) (T : u_T) (N : Nat), cls[t]? = some (C, T, N) ∧ t < 50 ∧ VLk RX7 218 C q_X7_octet := List.forall_mem_singleton.mpr ⟨_, _, _, cls_X7, by decide, Or.inl ⟨q1744, qs44⟩⟩
theorem ga_X7_13 : ∀ t ∈ [6], FOk RX7 13 t 5 ∧ (t = 13 → 5 < 2) ∧ isR (tyN t 5) = true := List.forall_mem_singleton.mpr ⟨fo_X7_13_6, (fun h => absurd h (by decide)), rfl⟩
theorem ff_X7_6_3 : FFin RX7 6 3 false := ⟨_, _, _, cls_X7, rfl, fun h => by cases h⟩
theorem pa_X7_201 : ∀ t ∈ [6], FOk RX7 201 t 3 ∧ FFin RX7 t 3 false ∧ tyN t 3 = .int := List.forall_mem_singleton.mpr ⟨fo_X7_201_6, ff_X7_6_3, rfl⟩
theorem fo_X7_204_6 : FOk RX7 204 6 4 := ⟨_, _, _, _, cls_X7, by decide, by decide, in_X7, Or.inl q1441, Or.inl rfl, tyX7_ok, nmX7⟩
theorem ff_X7_6_4 : FFin RX7 6 4 false := ⟨_, _, _, cls_X7, rfl, fun h => by cases h⟩
theorem pa_X7_204 : ∀ t ∈ [6], FOk RX7 204 t 4 ∧ FFin RX7 t 4 false ∧ tyN t 4 = .int := List.forall_mem_singleton.mpr ⟨fo_X7_204_6, ff_X7_6_4, rfl⟩
theorem vl_X7_222 : ∀ t ∈ [6], ∃ (C : String) (T : u_T) (N : Nat), cls[t]? = some (C, T, N) ∧ t < 50 ∧ VLk RX7 222 C q_X7_throwsIf := List.forall_mem_singleton.mpr ⟨_, _, _, cls_X7, by decide, Or.inl ⟨q1756, qs45⟩⟩
theorem fo_X7_252_6 : FOk RX7 252 6 10 := ⟨_, _, _, _, cls_X7, by decide, by decide, in_X7, Or.inl q1447, Or.inl rfl, tyX7_ok, nmX7⟩
theorem ga_X7_252 : ∀ t ∈ [6], FOk RX7 252 t 10 ∧ (t = 13 → 10 < 2) ∧ isI (tyN t 10) = true := List.forall_mem_singleton.mpr ⟨fo_X7_252_6, (fun h => absurd h (by decide)), rfl⟩
theorem ff_X7_6_10 : FFin RX7 6 10 false := ⟨_, _, _, cls_X7, rfl, fun h => by cases h⟩
theorem pa_X7_252 : ∀ t ∈ [6], FOk RX7 252 t 10 ∧ FFin RX7 t 10 false ∧ tyN t 10 = .int := List.forall_mem_singleton.mpr ⟨fo_X7_252_6, ff_X7_6_10, rfl⟩
theorem fo_X7_233_6 : FOk RX7 233 6 12 := ⟨_, _, _, _, cls_X7, by decide, by decide, in_X7, Or.inl q1449, Or.inl rfl, tyX7_ok, nmX7⟩
theorem ff_X7_6_12 : FFin RX7 6 12 false := ⟨_, _, _, cls_X7, rfl, fun h => by cases h⟩
theorem pa_X7_233 : ∀ t ∈ [6], FOk RX7 233 t 12 ∧ FFin RX7 t 12 false ∧ tyN t 12 = .int := List.forall_mem_singleton.mpr ⟨fo_X7_233_6, ff_X7_6_12, rfl⟩
theorem ga_X7_26 : ∀ t ∈ [6], FOk RX7 26 t 17 ∧ (t = 13 → 17 < 2) ∧ isR (tyN t 17) = true := List.forall_mem_singleton.mpr ⟨fo_X7_26_6, (fun h => absurd h (by decide)), rfl⟩
theorem ga_X7_29 : ∀ t ∈ [6], FOk RX7 29 t 18 ∧ (t = 13 → 18 < 2) ∧ isR (tyN t 18) = true := List.forall_mem_singleton.mpr ⟨fo_X7_29_6, (fun h => absurd h (by decide)), rfl⟩
theorem vl_X7_262 : ∀ t ∈ [6], ∃ (C : String) (T : u_T) (N : Nat), cls[t]? = some (C, T, N) ∧ t < 50 ∧ VLk RX7 262 C q_X7_next := List.forall_mem_singleton.mpr ⟨_, _, _, cls_X7, by decide, Or.inl ⟨q1772, qs46⟩⟩
theorem vl_X7_342 : ∀ t ∈ [6], ∃ (C : String) (T : u_T) (N : Nat), cls[t]? = some (C, T, N) ∧ t < 50 ∧ VLk RX7 342 C q_X7_read := List.forall_mem_singleton.mpr ⟨_, _, _, cls_X7, by decide, Or.inl ⟨q1786, qs48⟩⟩
theorem fo_X7_255_6 : FOk RX7 255 6 11 := ⟨_, _, _, _, cls_X7, by decide, by decide, in_X7, Or.inl q1448, Or.inl rfl, tyX7_ok, nmX7⟩
theorem ga_X7_255 : ∀ t ∈ [6], FOk RX7 255 t 11 ∧ (t = 13 → 11 < 2) ∧ isI (tyN t 11) = true := List.forall_mem_singleton.mpr ⟨fo_X7_255_6, (fun h => absurd h (by decide)), rfl⟩
theorem vl_X7_346 : ∀ t ∈ [6], ∃ (C : String) (T : u_T) (N : Nat), cls[t]? = some (C, T, N) ∧ t < 50 ∧ VLk RX7 346 C q_X7_copyBoard := List.forall_mem_singleton.mpr ⟨_, _, _, cls_X7, by decide, Or.inl ⟨q1839, qs54⟩⟩
theorem vl_X7_226 : ∀ t ∈ [6], ∃ (C : String) (T : u_T) (N : Nat), cls[t]? = some (C, T, N) ∧ t < 50 ∧ VLk RX7 226 C q_X7_peek := List.forall_mem_singleton.mpr ⟨_, _, _, cls_X7, by decide, Or.inl ⟨q1776, qs47⟩⟩
theorem ga_X7_204 : ∀ t ∈ [6], FOk RX7 204 t 4 ∧ (t = 13 → 4 < 2) ∧ isI (tyN t 4) = true := List.forall_mem_singleton.mpr ⟨fo_X7_204_6, (fun h => absurd h (by decide)), rfl⟩
theorem fo_X7_230_6 : FOk RX7 230 6 8 := ⟨_, _, _, _, cls_X7, by decide, by decide, in_X7, Or.inl q1445, Or.inl rfl, tyX7_ok, nmX7⟩
theorem ff_X7_6_8 : FFin RX7 6 8 false := ⟨_, _, _, cls_X7, rfl, fun h => by cases h⟩
theorem pa_X7_230 : ∀ t ∈ [6], FOk RX7 230 t 8 ∧ FFin RX7 t 8 false ∧ tyN t 8 = .int := List.forall_mem_singleton.mpr ⟨fo_X7_230_6, ff_X7_6_8, rfl⟩
theorem ga_X7_233 : ∀ t ∈ [6], FOk RX7 233 t 12 ∧ (t = 13 → 12 < 2) ∧ isI (tyN t 12) = true := List.forall_mem_singleton.mpr ⟨fo_X7_233_6, (fun h => absurd h (by decide)), rfl⟩
theorem fo_X7_236_6 : FOk RX7 236 6 7 := ⟨_, _, _, _, cls_X7, by decide, by decide, in_X7, Or.inl q1444, Or.inl rfl, tyX7_ok, nmX7⟩
theorem ff_X7_6_7 : FFin RX7 6 7 false := ⟨_, _, _, cls_X7, rfl, fun h => by cases h⟩
theorem pa_X7_236 : ∀ t ∈ [6], FOk RX7 236 t 7 ∧ FFin RX7 t 7 false ∧ tyN t 7 = .int := List.forall_mem_singleton.mpr ⟨fo_X7_236_6, ff_X7_6_7, rfl⟩
theorem fo_X7_239_6 : FOk RX7 239 6 13 := ⟨_, _, _, _, cls_X7, by decide, by decide, in_X7, Or.inl q1450, Or.inl rfl, tyX7_ok, nmX7⟩
theorem ff_X7_6_13 : FFin RX7 6 13 false := ⟨_, _, _, cls_X7, rfl, fun h => by cases h⟩
theorem pa_X7_239 : ∀ t ∈ [6], FOk RX7 239 t 13 ∧ FFin RX7 t 13 false ∧ isL (tyN t 13) = true := List.forall_mem_singleton.mpr ⟨fo_X7_239_6, ff_X7_6_13, rfl⟩
theorem fo_X7_243_6 : FOk RX7 243 6 9 := ⟨_, _, _, _, cls_X7, by decide, by decide, in_X7, Or.inl q1446, Or.inl rfl, tyX7_ok, nmX7⟩
theorem ff_X7_6_9 : FFin RX7 6 9 false := ⟨_, _, _, cls_X7, rfl, fun h => by cases h⟩
theorem pa_X7_243 : ∀ t ∈ [6], FOk RX7 243 t 9 ∧ FFin RX7 t 9 false ∧ tyN t 9 = .int := List.forall_mem_singleton.mpr ⟨fo_X7_243_6, ff_X7_6_9, rfl⟩
theorem ga_X7_239 : ∀ t ∈ [6], FOk RX7 239 t 13 ∧ (t = 13 → 13 < 2) ∧ isL (tyN t 13) = true := List.forall_mem_singleton.mpr ⟨fo_X7_239_6, (fun h => absurd h (by decide)), rfl⟩
theorem ga_X7_243 : ∀ t ∈ [6], FOk RX7 243 t 9 ∧ (t = 13 → 9 < 2) ∧ isI (tyN t 9) = true := List.forall_mem_singleton.mpr ⟨fo_X7_243_6, (fun h => absurd h (by decide)), rfl⟩
theorem ga_X7_236 : ∀ t ∈ [6], FOk RX7 236 t 7 ∧ (t = 13 → 7 < 2) ∧ isI (tyN t 7) = true := List.forall_mem_singleton.mpr ⟨fo_X7_236_6, (fun h => absurd h (by decide)), rfl⟩
theorem vl_X7_326 : ∀ t ∈ [6], ∃ (C : String) (T : u_T) (N : Nat), cls[t]? = some (C, T, N) ∧ t < 50 ∧ VLk RX7 326 C q_X7_isHub := List.forall_mem_singleton.mpr ⟨_, _, _, cls_X7, by decide, Or.inl ⟨q1790, qs49⟩⟩
theorem ga_X7_230 : ∀ t ∈ [6], FOk RX7 230 t 8 ∧ (t = 13 → 8 < 2) ∧ isI (tyN t 8) = true := List.forall_mem_singleton.mpr ⟨fo_X7_230_6, (fun h => absurd h (by decide)), rfl⟩
theorem vl_X7_258 : ∀ t ∈ [6], ∃ (C : String) (T : u_T) (N : Nat), cls[t]? = some (C, T, N) ∧ t < 50 ∧ VLk RX7 258 C q_X7_bad := List.forall_mem_singleton.mpr ⟨_, _, _, cls_X7, by decide, Or.inl ⟨q1817, qs50⟩⟩
theorem vl_X7_339 : ∀ t ∈ [6], ∃ (C : String) (T : u_T) (N : Nat), cls[t]? = some (C, T, N) ∧ t < 50 ∧ VLk RX7 339 C q_X7_hub := List.forall_mem_singleton.mpr ⟨_, _, _, cls_X7, by decide, Or.inl ⟨q1821, qs51⟩⟩
theorem vl_X7_333 : ∀ t ∈ [6], ∃ (C : String) (T : u_T) (N : Nat), cls[t]? = some (C, T, N) ∧ t < 50 ∧ VLk RX7 333 C q_X7_sign := List.forall_mem_singleton.mpr ⟨_, _, _, cls_X7, by decide, Or.inl ⟨q1829, qs53⟩⟩
theorem ga_X7_20 : ∀ t ∈ [6], FOk RX7 20 t 15 ∧ (t = 13 → 15 < 2) ∧ isR (tyN t 15) = true := List.forall_mem_singleton.mpr ⟨fo_X7_20_6, (fun h => absurd h (by decide)), rfl⟩
theorem ga_X7_23 : ∀ t ∈ [6], FOk RX7 23 t 16 ∧ (t = 13 → 16 < 2) ∧ isR (tyN t 16) = true := List.forall_mem_singleton.mpr ⟨fo_X7_23_6, (fun h => absurd h (by decide)), rfl⟩
theorem fo_X7_268_6 : FOk RX7 268 6 22 := ⟨_, _, _, _, cls_X7, by decide, by decide, in_X7, Or.inl q1459, Or.inl rfl, tyX7_ok, nmX7⟩
theorem ff_X7_6_22 : FFin RX7 6 22 false := ⟨_, _, _, cls_X7, rfl, fun h => by cases h⟩
theorem pa_X7_268 : ∀ t ∈ [6], FOk RX7 268 t 22 ∧ FFin RX7 t 22 false ∧ tyN t 22 = .int := List.forall_mem_singleton.mpr ⟨fo_X7_268_6, ff_X7_6_22, rfl⟩
theorem fo_X7_271_6 : FOk RX7 271 6 21 := ⟨_, _, _, _, cls_X7, by decide, by decide, in_X7, Or.inl q1458, Or.inl rfl, tyX7_ok, nmX7⟩
theorem ff_X7_6_21 : FFin RX7 6 21 false := ⟨_, _, _, cls_X7, rfl, fun h => by cases h⟩
theorem pa_X7_271 : ∀ t ∈ [6], FOk RX7 271 t 21 ∧ FFin RX7 t 21 false ∧ tyN t 21 = .int := List.forall_mem_singleton.mpr ⟨fo_X7_271_6, ff_X7_6_21, rfl⟩
theorem fo_X7_282_6 : FOk RX7 282 6 20 := ⟨_, _, _, _, cls_X7, by decide, by decide, in_X7, Or.inl q1457, Or.inl rfl, tyX7_ok, nmX7⟩
theorem ff_X7_6_20 : FFin RX7 6 20 false := ⟨_, _, _, cls_X7, rfl, fun h => by cases h⟩
theorem pa_X7_282 : ∀ t ∈ [6], FOk RX7 282 t 20 ∧ FFin RX7 t 20 false ∧ tyN t 20 = .int := List.forall_mem_singleton.mpr ⟨fo_X7_282_6, ff_X7_6_20, rfl⟩
theorem ga_X7_282 : ∀ t ∈ [6], FOk RX7 282 t 20 ∧ (t = 13 → 20 < 2) ∧ isI (tyN t 20) = true := List.forall_mem_singleton.mpr ⟨fo_X7_282_6, (fun h => absurd h (by decide)), rfl⟩
theorem ff_X7_6_11 : FFin RX7 6 11 false := ⟨_, _, _, cls_X7, rfl, fun h => by cases h⟩
theorem pa_X7_255 : ∀ t ∈ [6], FOk RX7 255 t 11 ∧ FFin RX7 t 11 false ∧ tyN t 11 = .int := List.forall_mem_singleton.mpr ⟨fo_X7_255_6, ff_X7_6_11, rfl⟩
theorem ga_X7_271 : ∀ t ∈ [6], FOk RX7 271 t 21 ∧ (t = 13 → 21 < 2) ∧ isI (tyN t 21) = true := List.forall_mem_singleton.mpr ⟨fo_X7_271_6, (fun h => absurd h (by decide)), rfl⟩
theorem ga_X7_268 : ∀ t ∈ [6], FOk RX7 268 t 22 ∧ (t = 13 → 22 < 2) ∧ isI (tyN t 22) = true := List.forall_mem_singleton.mpr ⟨fo_X7_268_6, (fun h => absurd h (by decide)), rfl⟩
theorem vl_X7_330 : ∀ t ∈ [6], ∃ (C : String) (T : u_T) (N : Nat), cls[t]? = some (C, T, N) ∧ t < 50 ∧ VLk RX7 330 C q_X7_takes := List.forall_mem_singleton.mpr ⟨_, _, _, cls_X7, by decide, Or.inl ⟨q1825, qs52⟩⟩
theorem fo_X7_265_6 : FOk RX7 265 6 14 := ⟨_, _, _, _, cls_X7, by decide, by decide, in_X7, Or.inl q1451, Or.inl rfl, tyX7_ok, nmX7⟩
theorem ga_X7_265 : ∀ t ∈ [6], FOk RX7 265 t 14 ∧ (t = 13 → 14 < 2) ∧ isI (tyN t 14) = true := List.forall_mem_singleton.mpr ⟨fo_X7_265_6, (fun h => absurd h (by decide)), rfl⟩
theorem ff_X7_6_14 : FFin RX7 6 14 false := ⟨_, _, _, cls_X7, rfl, fun h => by cases h⟩
theorem pa_X7_265 : ∀ t ∈ [6], FOk RX7 265 t 14 ∧ FFin RX7 t 14 false ∧ tyN t 14 = .int := List.forall_mem_singleton.mpr ⟨fo_X7_265_6, ff_X7_6_14, rfl⟩
theorem fo_X7_353_6 : FOk RX7 353 6 42 := ⟨_, _, _, _, cls_X7, by decide, by decide, in_X7, Or.inl q1479, Or.inl rfl, tyX7_ok, nmX7⟩
theorem ff_X7_6_42 : FFin RX7 6 42 false := ⟨_, _, _, cls_X7, rfl, fun h => by cases h⟩
theorem pa_X7_353 : ∀ t ∈ [6], FOk RX7 353 t 42 ∧ FFin RX7 t 42 false ∧ tyN t 42 = .int := List.forall_mem_singleton.mpr ⟨fo_X7_353_6, ff_X7_6_42, rfl⟩
theorem vl_X7_399 : ∀ t ∈ [6], ∃ (C : String) (T : u_T) (N : Nat), cls[t]? = some (C, T, N) ∧ t < 50 ∧ VLk RX7 399 C q_X7_load := List.forall_mem_singleton.mpr ⟨_, _, _, cls_X7, by decide, Or.inl ⟨q1847, qs55⟩⟩
theorem vl_X7_403 : ∀ t ∈ [6], ∃ (C : String) (T : u_T) (N : Nat), cls[t]? = some (C, T, N) ∧ t < 50 ∧ VLk RX7 403 C q_X7_play := List.forall_mem_singleton.mpr ⟨_, _, _, cls_X7, by decide, Or.inl ⟨q1851, qs56⟩⟩
theorem ga_X7_63 : ∀ t ∈ [6], FOk RX7 63 t 32 ∧ (t = 13 → 32 < 2) ∧ isR (tyN t 32) = true := List.forall_mem_singleton.mpr ⟨fo_X7_63_6, (fun h => absurd h (by decide)), rfl⟩
theorem ga_X7_72 : ∀ t ∈ [6], FOk RX7 72 t 35 ∧ (t = 13 → 35 < 2) ∧ isR (tyN t 35) = true := List.forall_mem_singleton.mpr ⟨fo_X7_72_6, (fun h => absurd h (by decide)), rfl⟩
theorem vl_X7_406 : ∀ t ∈ [6], ∃ (C : String) (T : u_T) (N : Nat), cls[t]? = some (C, T, N) ∧ t < 50 ∧ VLk RX7 406 C q_X7_keepRun := List.forall_mem_singleton.mpr ⟨_, _, _, cls_X7, by decide, Or.inl ⟨q1901, qs67⟩⟩
theorem fo_X7_409_6 : FOk RX7 409 6 44 := ⟨_, _, _, _, cls_X7, by decide, by decide, in_X7, Or.inl q1481, Or.inl rfl, tyX7_ok, nmX7⟩
theorem ff_X7_6_44 : FFin RX7 6 44 false := ⟨_, _, _, cls_X7, rfl, fun h => by cases h⟩
theorem pa_X7_409 : ∀ t ∈ [6], FOk RX7 409 t 44 ∧ FFin RX7 t 44 false ∧ (tyN t 44 = .boolean ∨ tyN t 44 = .byte) := List.forall_mem_singleton.mpr ⟨fo_X7_409_6, ff_X7_6_44, Or.inl rfl⟩
theorem ga_X7_57 : ∀ t ∈ [6], FOk RX7 57 t 30 ∧ (t = 13 → 30 < 2) ∧ isR (tyN t 30) = true := List.forall_mem_singleton.mpr ⟨fo_X7_57_6, (fun h => absurd h (by decide)), rfl⟩
theorem fo_X7_350_6 : FOk RX7 350 6 41 := ⟨_, _, _, _, cls_X7, by decide, by decide, in_X7, Or.inl q1478, Or.inl rfl, tyX7_ok, nmX7⟩
theorem ff_X7_6_41 : FFin RX7 6 41 false := ⟨_, _, _, cls_X7, rfl, fun h => by cases h⟩
theorem pa_X7_350 : ∀ t ∈ [6], FOk RX7 350 t 41 ∧ FFin RX7 t 41 false ∧ tyN t 41 = .int := List.forall_mem_singleton.mpr ⟨fo_X7_350_6, ff_X7_6_41, rfl⟩
theorem ga_X7_36 : ∀ t ∈ [6], FOk RX7 36 t 23 ∧ (t = 13 → 23 < 2) ∧ isR (tyN t 23) = true := List.forall_mem_singleton.mpr ⟨fo_X7_36_6, (fun h => absurd h (by decide)), rfl⟩
theorem ga_X7_350 : ∀ t ∈ [6], FOk RX7 350 t 41 ∧ (t = 13 → 41 < 2) ∧ isI (tyN t 41) = true := List.forall_mem_singleton.mpr ⟨fo_X7_350_6, (fun h => absurd h (by decide)), rfl⟩
theorem fo_X7_364_6 : FOk RX7 364 6 43 := ⟨_, _, _, _, cls_X7, by decide, by decide, in_X7, Or.inl q1480, Or.inl rfl, tyX7_ok, nmX7⟩
theorem ff_X7_6_43 : FFin RX7 6 43 false := ⟨_, _, _, cls_X7, rfl, fun h => by cases h⟩
theorem pa_X7_364 : ∀ t ∈ [6], FOk RX7 364 t 43 ∧ FFin RX7 t 43 false ∧ tyN t 43 = .int := List.forall_mem_singleton.mpr ⟨fo_X7_364_6, ff_X7_6_43, rfl⟩
theorem ga_X7_60 : ∀ t ∈ [6], FOk RX7 60 t 31 ∧ (t = 13 → 31 < 2) ∧ isR (tyN t 31) = true := List.forall_mem_singleton.mpr ⟨fo_X7_60_6, (fun h => absurd h (by decide)), rfl⟩
theorem ga_X7_75 : ∀ t ∈ [6], FOk RX7 75 t 36 ∧ (t = 13 → 36 < 2) ∧ isR (tyN t 36) = true := List.forall_mem_singleton.mpr ⟨fo_X7_75_6, (fun h => absurd h (by decide)), rfl⟩
theorem ga_X7_78 : ∀ t ∈ [6], FOk RX7 78 t 37 ∧ (t = 13 → 37 < 2) ∧ isR (tyN t 37) = true := List.forall_mem_singleton.mpr ⟨fo_X7_78_6, (fun h => absurd h (by decide)), rfl⟩
theorem ga_X7_81 : ∀ t ∈ [6], FOk RX7 81 t 38 ∧ (t = 13 → 38 < 2) ∧ isR (tyN t 38) = true := List.forall_mem_singleton.mpr ⟨fo_X7_81_6, (fun h => absurd h (by decide)), rfl⟩
theorem ga_X7_84 : ∀ t ∈ [6], FOk RX7 84 t 39 ∧ (t = 13 → 39 < 2) ∧ isR (tyN t 39) = true := List.forall_mem_singleton.mpr ⟨fo_X7_84_6, (fun h => absurd h (by decide)), rfl⟩
theorem ga_X7_87 : ∀ t ∈ [6], FOk RX7 87 t 40 ∧ (t = 13 → 40 < 2) ∧ isR (tyN t 40) = true := List.forall_mem_singleton.mpr ⟨fo_X7_87_6, (fun h => absurd h (by decide)), rfl⟩
theorem ga_X7_69 : ∀ t ∈ [6], FOk RX7 69 t 34 ∧ (t = 13 → 34 < 2) ∧ isR (tyN t 34) = true := List.forall_mem_singleton.mpr ⟨fo_X7_69_6, (fun h => absurd h (by decide)), rfl⟩
theorem ga_X7_42 : ∀ t ∈ [6], FOk RX7 42 t 25 ∧ (t = 13 → 25 < 2) ∧ isR (tyN t 25) = true := List.forall_mem_singleton.mpr ⟨fo_X7_42_6, (fun h => absurd h (by decide)), rfl⟩
theorem vl_X7_367 : ∀ t ∈ [6], ∃ (C : String) (T : u_T) (N : Nat), cls[t]? = some (C, T, N) ∧ t < 50 ∧ VLk RX7 367 C q_X7_nets := List.forall_mem_singleton.mpr ⟨_, _, _, cls_X7, by decide, Or.inl ⟨q1855, qs57⟩⟩
theorem ga_X7_39 : ∀ t ∈ [6], FOk RX7 39 t 24 ∧ (t = 13 → 24 < 2) ∧ isR (tyN t 24) = true := List.forall_mem_singleton.mpr ⟨fo_X7_39_6, (fun h => absurd h (by decide)), rfl⟩
theorem vl_X7_371 : ∀ t ∈ [6], ∃ (C : String) (T : u_T) (N : Nat), cls[t]? = some (C, T, N) ∧ t < 50 ∧ VLk RX7 371 C q_X7_digit := List.forall_mem_singleton.mpr ⟨_, _, _, cls_X7, by decide, Or.inl ⟨q1862, qs58⟩⟩
theorem vl_X7_375 : ∀ t ∈ [6], ∃ (C : String) (T : u_T) (N : Nat), cls[t]? = some (C, T, N) ∧ t < 50 ∧ VLk RX7 375 C q_X7_cycle := List.forall_mem_singleton.mpr ⟨_, _, _, cls_X7, by decide, Or.inl ⟨q1866, qs59⟩⟩
theorem vl_X7_379 : ∀ t ∈ [6], ∃ (C : String) (T : u_T) (N : Nat), cls[t]? = some (C, T, N) ∧ t < 50 ∧ VLk RX7 379 C q_X7_have := List.forall_mem_singleton.mpr ⟨_, _, _, cls_X7, by decide, Or.inl ⟨q1874, qs61⟩⟩
theorem vl_X7_382 : ∀ t ∈ [6], ∃ (C : String) (T : u_T) (N : Nat), cls[t]? = some (C, T, N) ∧ t < 50 ∧ VLk RX7 382 C q_X7_total := List.forall_mem_singleton.mpr ⟨_, _, _, cls_X7, by decide, Or.inl ⟨q1897, qs66⟩⟩
theorem ga_X7_353 : ∀ t ∈ [6], FOk RX7 353 t 42 ∧ (t = 13 → 42 < 2) ∧ isI (tyN t 42) = true := List.forall_mem_singleton.mpr ⟨fo_X7_353_6, (fun h => absurd h (by decide)), rfl⟩
theorem ga_X7_54 : ∀ t ∈ [6], FOk RX7 54 t 29 ∧ (t = 13 → 29 < 2) ∧ isR (tyN t 29) = true := List.forall_mem_singleton.mpr ⟨fo_X7_54_6, (fun h => absurd h (by decide)), rfl⟩
theorem vl_X7_385 : ∀ t ∈ [6], ∃ (C : String) (T : u_T) (N : Nat), cls[t]? = some (C, T, N) ∧ t < 50 ∧ VLk RX7 385 C q_X7_gather := List.forall_mem_singleton.mpr ⟨_, _, _, cls_X7, by decide, Or.inl ⟨q1870, qs60⟩⟩
theorem ga_X7_51 : ∀ t ∈ [6], FOk RX7 51 t 28 ∧ (t = 13 → 28 < 2) ∧ isR (tyN t 28) = true := List.forall_mem_singleton.mpr ⟨fo_X7_51_6, (fun h => absurd h (by decide)), rfl⟩
theorem ga_X7_45 : ∀ t ∈ [6], FOk RX7 45 t 26 ∧ (t = 13 → 26 < 2) ∧ isR (tyN t 26) = true := List.forall_mem_singleton.mpr ⟨fo_X7_45_6, (fun h => absurd h (by decide)), rfl⟩
theorem vl_X7_388 : ∀ t ∈ [6], ∃ (C : String) (T : u_T) (N : Nat), cls[t]? = some (C, T, N) ∧ t < 50 ∧ VLk RX7 388 C q_X7_jam := List.forall_mem_singleton.mpr ⟨_, _, _, cls_X7, by decide, Or.inl ⟨q1882, qs63⟩⟩
theorem vl_X7_391 : ∀ t ∈ [6], ∃ (C : String) (T : u_T) (N : Nat), cls[t]? = some (C, T, N) ∧ t < 50 ∧ VLk RX7 391 C q_X7_prints := List.forall_mem_singleton.mpr ⟨_, _, _, cls_X7, by decide, Or.inl ⟨q1886, qs64⟩⟩
theorem ga_X7_66 : ∀ t ∈ [6], FOk RX7 66 t 33 ∧ (t = 13 → 33 < 2) ∧ isR (tyN t 33) = true := List.forall_mem_singleton.mpr ⟨fo_X7_66_6, (fun h => absurd h (by decide)), rfl⟩
theorem vl_X7_393 : ∀ t ∈ [6], ∃ (C : String) (T : u_T) (N : Nat), cls[t]? = some (C, T, N) ∧ t < 50 ∧ VLk RX7 393 C q_X7_turn := List.forall_mem_singleton.mpr ⟨_, _, _, cls_X7, by decide, Or.inl ⟨q1890, qs65⟩⟩
theorem ga_X7_364 : ∀ t ∈ [6], FOk RX7 364 t 43 ∧ (t = 13 → 43 < 2) ∧ isI (tyN t 43) = true := List.forall_mem_singleton.mpr ⟨fo_X7_364_6, (fun h => absurd h (by decide)), rfl⟩
theorem ga_X7_48 : ∀ t ∈ [6], FOk RX7 48 t 27 ∧ (t = 13 → 27 < 2) ∧ isR (tyN t 27) = true := List.forall_mem_singleton.mpr ⟨fo_X7_48_6, (fun h => absurd h (by decide)), rfl⟩
theorem vl_X7_360 : ∀ t ∈ [6], ∃ (C : String) (T : u_T) (N : Nat), cls[t]? = some (C, T, N) ∧ t < 50 ∧ VLk RX7 360 C q_X7_take := List.forall_mem_singleton.mpr ⟨_, _, _, cls_X7, by decide, Or.inl ⟨q1878, qs62⟩⟩
theorem ga_X7_409 : ∀ t ∈ [6], FOk RX7 409 t 44 ∧ (t = 13 → 44 < 2) ∧ isI (tyN t 44) = true := List.forall_mem_singleton.mpr ⟨fo_X7_409_6, (fun h => absurd h (by decide)), rfl⟩
theorem ga_X7_90 : ∀ t ∈ [6], FOk RX7 90 t 45 ∧ (t = 13 → 45 < 2) ∧ isR (tyN t 45) = true := List.forall_mem_singleton.mpr ⟨fo_X7_90_6, (fun h => absurd h (by decide)), rfl⟩
theorem vl_X7_413 : ∀ t ∈ [6], ∃ (C : String) (T : u_T) (N : Nat), cls[t]? = some (C, T, N) ∧ t < 50 ∧ VLk RX7 413 C q_X7_sort := List.forall_mem_singleton.mpr ⟨_, _, _, cls_X7, by decide, Or.inl ⟨q1921, qs68⟩⟩
theorem ga_X7_93 : ∀ t ∈ [6], FOk RX7 93 t 46 ∧ (t = 13 → 46 < 2) ∧ isR (tyN t 46) = true := List.forall_mem_singleton.mpr ⟨fo_X7_93_6, (fun h => absurd h (by decide)), rfl⟩
theorem vl_X7_420 : ∀ t ∈ [6], ∃ (C : String) (T : u_T) (N : Nat), cls[t]? = some (C, T, N) ∧ t < 50 ∧ VLk RX7 420 C q_X7_isOrdered := List.forall_mem_singleton.mpr ⟨_, _, _, cls_X7, by decide, Or.inl ⟨q1932, qs69⟩⟩
theorem fo_X7_423_6 : FOk RX7 423 6 47 := ⟨_, _, _, _, cls_X7, by decide, by decide, in_X7, Or.inl q1484, Or.inl rfl, tyX7_ok, nmX7⟩
theorem ff_X7_6_47 : FFin RX7 6 47 false := ⟨_, _, _, cls_X7, rfl, fun h => by cases h⟩
theorem pa_X7_423 : ∀ t ∈ [6], FOk RX7 423 t 47 ∧ FFin RX7 t 47 false ∧ tyN t 47 = .int := List.forall_mem_singleton.mpr ⟨fo_X7_423_6, ff_X7_6_47, rfl⟩
theorem ga_X7_423 : ∀ t ∈ [6], FOk RX7 423 t 47 ∧ (t = 13 → 47 < 2) ∧ isI (tyN t 47) = true := List.forall_mem_singleton.mpr ⟨fo_X7_423_6, (fun h => absurd h (by decide)), rfl⟩
theorem fo_X7_426_6 : FOk RX7 426 6 53 := ⟨_, _, _, _, cls_X7, by decide, by decide, in_X7, Or.inl q1490, Or.inl rfl, tyX7_ok, nmX7⟩
theorem ff_X7_6_53 : FFin RX7 6 53 false := ⟨_, _, _, cls_X7, rfl, fun h => by cases h⟩
theorem pa_X7_426 : ∀ t ∈ [6], FOk RX7 426 t 53 ∧ FFin RX7 t 53 false ∧ tyN t 53 = .int := List.forall_mem_singleton.mpr ⟨fo_X7_426_6, ff_X7_6_53, rfl⟩
theorem vl_X7_429 : ∀ t ∈ [6], ∃ (C : String) (T : u_T) (N : Nat), cls[t]? = some (C, T, N) ∧ t < 50 ∧ VLk RX7 429 C q_X7_isLike := List.forall_mem_singleton.mpr ⟨_, _, _, cls_X7, by decide, Or.inl ⟨q1944, qs70⟩⟩
theorem ga_X7_96 : ∀ t ∈ [6], FOk RX7 96 t 48 ∧ (t = 13 → 48 < 2) ∧ isR (tyN t 48) = true := List.forall_mem_singleton.mpr ⟨fo_X7_96_6, (fun h => absurd h (by decide)), rfl⟩
theorem ga_X7_426 : ∀ t ∈ [6], FOk RX7 426 t 53 ∧ (t = 13 → 53 < 2) ∧ isI (tyN t 53) = true := List.forall_mem_singleton.mpr ⟨fo_X7_426_6, (fun h => absurd h (by decide)), rfl⟩
theorem vl_X7_435 : ∀ t ∈ [6], ∃ (C : String) (T : u_T) (N : Nat), cls[t]? = some (C, T, N) ∧ t < 50 ∧ VLk RX7 435 C q_X7_takeLines := List.forall_mem_singleton.mpr ⟨_, _, _, cls_X7, by decide, Or.inl ⟨q1952, qs71⟩⟩
theorem vl_X7_438 : ∀ t ∈ [6], ∃ (C : String) (T : u_T) (N : Nat), cls[t]? = some (C, T, N) ∧ t < 50 ∧ VLk RX7 438 C q_X7_isWanted := List.forall_mem_singleton.mpr ⟨_, _, _, cls_X7, by decide, Or.inl ⟨q1956, qs72⟩⟩
theorem ga_X7_102 : ∀ t ∈ [6], FOk RX7 102 t 50 ∧ (t = 13 → 50 < 2) ∧ isR (tyN t 50) = true := List.forall_mem_singleton.mpr ⟨fo_X7_102_6, (fun h => absurd h (by decide)), rfl⟩
theorem fo_X7_432_6 : FOk RX7 432 6 55 := ⟨_, _, _, _, cls_X7, by decide, by decide, in_X7, Or.inl q1492, Or.inl rfl, tyX7_ok, nmX7⟩
theorem ff_X7_6_55 : FFin RX7 6 55 false := ⟨_, _, _, cls_X7, rfl, fun h => by cases h⟩
theorem pa_X7_432 : ∀ t ∈ [6], FOk RX7 432 t 55 ∧ FFin RX7 t 55 false ∧ tyN t 55 = .int := List.forall_mem_singleton.mpr ⟨fo_X7_432_6, ff_X7_6_55, rfl⟩
theorem ga_X7_432 : ∀ t ∈ [6], FOk RX7 432 t 55 ∧ (t = 13 → 55 < 2) ∧ isI (tyN t 55) = true := List.forall_mem_singleton.mpr ⟨fo_X7_432_6, (fun h => absurd h (by decide)), rfl⟩
theorem ga_X7_108 : ∀ t ∈ [6], FOk RX7 108 t 52 ∧ (t = 13 → 52 < 2) ∧ isR (tyN t 52) = true := List.forall_mem_singleton.mpr ⟨fo_X7_108_6, (fun h => absurd h (by decide)), rfl⟩
theorem fo_X7_441_6 : FOk RX7 441 6 56 := ⟨_, _, _, _, cls_X7, by decide, by decide, in_X7, Or.inl q1493, Or.inl rfl, tyX7_ok, nmX7⟩
theorem ff_X7_6_56 : FFin RX7 6 56 false := ⟨_, _, _, cls_X7, rfl, fun h => by cases h⟩
theorem pa_X7_441 : ∀ t ∈ [6], FOk RX7 441 t 56 ∧ FFin RX7 t 56 false ∧ tyN t 56 = .int := List.forall_mem_singleton.mpr ⟨fo_X7_441_6, ff_X7_6_56, rfl⟩
theorem fo_X7_444_6 : FOk RX7 444 6 57 := ⟨_, _, _, _, cls_X7, by decide, by decide, in_X7, Or.inl q1494, Or.inl rfl, tyX7_ok, nmX7⟩
theorem ff_X7_6_57 : FFin RX7 6 57 false := ⟨_, _, _, cls_X7, rfl, fun h => by cases h⟩
theorem pa_X7_444 : ∀ t ∈ [6], FOk RX7 444 t 57 ∧ FFin RX7 t 57 false ∧ tyN t 57 = .int := List.forall_mem_singleton.mpr ⟨fo_X7_444_6, ff_X7_6_57, rfl⟩
theorem ga_X7_441 : ∀ t ∈ [6], FOk RX7 441 t 56 ∧ (t = 13 → 56 < 2) ∧ isI (tyN t 56) = true := List.forall_mem_singleton.mpr ⟨fo_X7_441_6, (fun h => absurd h (by decide)), rfl⟩
theorem ga_X7_444 : ∀ t ∈ [6], FOk RX7 444 t 57 ∧ (t = 13 → 57 < 2) ∧ isI (tyN t 57) = true := List.forall_mem_singleton.mpr ⟨fo_X7_444_6, (fun h => absurd h (by decide)), rfl⟩
theorem fo_X7_447_6 : FOk RX7 447 6 54 := ⟨_, _, _, _, cls_X7, by decide, by decide, in_X7, Or.inl q1491, Or.inl rfl, tyX7_ok, nmX7⟩
theorem ff_X7_6_54 : FFin RX7 6 54 false := ⟨_, _, _, cls_X7, rfl, fun h => by cases h⟩
theorem pa_X7_447 : ∀ t ∈ [6], FOk RX7 447 t 54 ∧ FFin RX7 t 54 false ∧ tyN t 54 = .int := List.forall_mem_singleton.mpr ⟨fo_X7_447_6, ff_X7_6_54, rfl⟩
theorem ga_X7_99 : ∀ t ∈ [6], FOk RX7 99 t 49 ∧ (t = 13 → 49 < 2) ∧ isR (tyN t 49) = true := List.forall_mem_singleton.mpr ⟨fo_X7_99_6, (fun h => absurd h (by decide)), rfl⟩
theorem ga_X7_447 : ∀ t ∈ [6], FOk RX7 447 t 54 ∧ (t = 13 → 54 < 2) ∧ isI (tyN t 54) = true := List.forall_mem_singleton.mpr ⟨fo_X7_447_6, (fun h => absurd h (by decide)), rfl⟩
theorem vl_X7_453 : ∀ t ∈ [6], ∃ (C : String) (T : u_T) (N : Nat), cls[t]? = some (C, T, N) ∧ t < 50 ∧ VLk RX7 453 C q_X7_put := List.forall_mem_singleton.mpr ⟨_, _, _, cls_X7, by decide, Or.inl ⟨q1991, qs73⟩⟩
theorem ga_X7_112 : ∀ t ∈ [6], FOk RX7 112 t 58 ∧ (t = 13 → 58 < 2) ∧ isR (tyN t 58) = true := List.forall_mem_singleton.mpr ⟨fo_X7_112_6, (fun h => absurd h (by decide)), rfl⟩
theorem ga_X7_115 : ∀ t ∈ [6], FOk RX7 115 t 59 ∧ (t = 13 → 59 < 2) ∧ isR (tyN t 59) = true := List.forall_mem_singleton.mpr ⟨fo_X7_115_6, (fun h => absurd h (by decide)), rfl⟩
theorem ga_X7_118 : ∀ t ∈ [6], FOk RX7 118 t 60 ∧ (t = 13 → 60 < 2) ∧ isR (tyN t 60) = true := List.forall_mem_singleton.mpr ⟨fo_X7_118_6, (fun h => absurd h (by decide)), rfl⟩
theorem fo_X7_457_6 : FOk RX7 457 6 61 := ⟨_, _, _, _, cls_X7, by decide, by decide, in_X7, Or.inl q1498, Or.inl rfl, tyX7_ok, nmX7⟩
theorem ff_X7_6_61 : FFin RX7 6 61 false := ⟨_, _, _, cls_X7, rfl, fun h => by cases h⟩
theorem pa_X7_457 : ∀ t ∈ [6], FOk RX7 457 t 61 ∧ FFin RX7 t 61 false ∧ tyN t 61 = .int := List.forall_mem_singleton.mpr ⟨fo_X7_457_6, ff_X7_6_61, rfl⟩
theorem ga_X7_457 : ∀ t ∈ [6], FOk RX7 457 t 61 ∧ (t = 13 → 61 < 2) ∧ isI (tyN t 61) = true := List.forall_mem_singleton.mpr ⟨fo_X7_457_6, (fun h => absurd h (by decide)), rfl⟩
theorem ga_X7_121 : ∀ t ∈ [6], FOk RX7 121 t 62 ∧ (t = 13 → 62 < 2) ∧ isR (tyN t 62) = true := List.forall_mem_singleton.mpr ⟨fo_X7_121_6, (fun h => absurd h (by decide)), rfl⟩
theorem ga_X7_133 : ∀ t ∈ [6], FOk RX7 133 t 66 ∧ (t = 13 → 66 < 2) ∧ isR (tyN t 66) = true := List.forall_mem_singleton.mpr ⟨fo_X7_133_6, (fun h => absurd h (by decide)), rfl⟩
theorem ga_X7_130 : ∀ t ∈ [6], FOk RX7 130 t 65 ∧ (t = 13 → 65 < 2) ∧ isR (tyN t 65) = true := List.forall_mem_singleton.mpr ⟨fo_X7_130_6, (fun h => absurd h (by decide)), rfl⟩
theorem vl_X7_488 : ∀ t ∈ [6], ∃ (C : String) (T : u_T) (N : Nat), cls[t]? = some (C, T, N) ∧ t < 50 ∧ VLk RX7 488 C q_X7_readJob := List.forall_mem_singleton.mpr ⟨_, _, _, cls_X7, by decide, Or.inl ⟨q2003, qs74⟩⟩
theorem ga_X7_124 : ∀ t ∈ [6], FOk RX7 124 t 63 ∧ (t = 13 → 63 < 2) ∧ isR (tyN t 63) = true := List.forall_mem_singleton.mpr ⟨fo_X7_124_6, (fun h => absurd h (by decide)), rfl⟩
theorem ga_X7_127 : ∀ t ∈ [6], FOk RX7 127 t 64 ∧ (t = 13 → 64 < 2) ∧ isR (tyN t 64) = true := List.forall_mem_singleton.mpr ⟨fo_X7_127_6, (fun h => absurd h (by decide)), rfl⟩
theorem ga_X7_136 : ∀ t ∈ [6], FOk RX7 136 t 67 ∧ (t = 13 → 67 < 2) ∧ isR (tyN t 67) = true := List.forall_mem_singleton.mpr ⟨fo_X7_136_6, (fun h => absurd h (by decide)), rfl⟩
theorem ga_X7_139 : ∀ t ∈ [6], FOk RX7 139 t 68 ∧ (t = 13 → 68 < 2) ∧ isR (tyN t 68) = true := List.forall_mem_singleton.mpr ⟨fo_X7_139_6, (fun h => absurd h (by decide)), rfl⟩
theorem ga_X7_142 : ∀ t ∈ [6], FOk RX7 142 t 69 ∧ (t = 13 → 69 < 2) ∧ isR (tyN t 69) = true := List.forall_mem_singleton.mpr ⟨fo_X7_142_6, (fun h => absurd h (by decide)), rfl⟩
theorem ga_X7_145 : ∀ t ∈ [6], FOk RX7 145 t 70 ∧ (t = 13 → 70 < 2) ∧ isR (tyN t 70) = true := List.forall_mem_singleton.mpr ⟨fo_X7_145_6, (fun h => absurd h (by decide)), rfl⟩
theorem vl_X7_470 : ∀ t ∈ [6], ∃ (C : String) (T : u_T) (N : Nat), cls[t]? = some (C, T, N) ∧ t < 50 ∧ VLk RX7 470 C q_X7_isWord := List.forall_mem_singleton.mpr ⟨_, _, _, cls_X7, by decide, Or.inl ⟨q2008, qs75⟩⟩
theorem vl_X7_473 : ∀ t ∈ [6], ∃ (C : String) (T : u_T) (N : Nat), cls[t]? = some (C, T, N) ∧ t < 50 ∧ VLk RX7 473 C q_X7_want := List.forall_mem_singleton.mpr ⟨_, _, _, cls_X7, by decide, Or.inl ⟨q2015, qs76⟩⟩
theorem vl_X7_476 : ∀ t ∈ [6], ∃ (C : String) (T : u_T) (N : Nat), cls[t]? = some (C, T, N) ∧ t < 50 ∧ VLk RX7 476 C q_X7_field := List.forall_mem_singleton.mpr ⟨_, _, _, cls_X7, by decide, Or.inl ⟨q2028, qs79⟩⟩
theorem vl_X7_479 : ∀ t ∈ [6], ∃ (C : String) (T : u_T) (N : Nat), cls[t]? = some (C, T, N) ∧ t < 50 ∧ VLk RX7 479 C q_X7_breaks := List.forall_mem_singleton.mpr ⟨_, _, _, cls_X7, by decide, Or.inl ⟨q2032, qs80⟩⟩
theorem vl_X7_482 : ∀ t ∈ [6], ∃ (C : String) (T : u_T) (N : Nat), cls[t]? = some (C, T, N) ∧ t < 50 ∧ VLk RX7 482 C q_X7_isName := List.forall_mem_singleton.mpr ⟨_, _, _, cls_X7, by decide, Or.inl ⟨q2019, qs77⟩⟩
theorem vl_X7_485 : ∀ t ∈ [6], ∃ (C : String) (T : u_T) (N : Nat), cls[t]? = some (C, T, N) ∧ t < 50 ∧ VLk RX7 485 C q_X7_named := List.forall_mem_singleton.mpr ⟨_, _, _, cls_X7, by decide, Or.inl ⟨q2024, qs78⟩⟩
theorem ga_X7_148 : ∀ t ∈ [6], FOk RX7 148 t 71 ∧ (t = 13 → 71 < 2) ∧ isR (tyN t 71) = true := List.forall_mem_singleton.mpr ⟨fo_X7_148_6, (fun h => absurd h (by decide)), rfl⟩
theorem vl_X7_512 : ∀ t ∈ [6], ∃ (C : String) (T : u_T) (N : Nat), cls[t]? = some (C, T, N) ∧ t < 50 ∧ VLk RX7 512 C q_X7_plan := List.forall_mem_singleton.mpr ⟨_, _, _, cls_X7, by decide, Or.inl ⟨q2040, qs81⟩⟩
theorem ga_X7_163 : ∀ t ∈ [6], FOk RX7 163 t 76 ∧ (t = 13 → 76 < 2) ∧ isR (tyN t 76) = true := List.forall_mem_singleton.mpr ⟨fo_X7_163_6, (fun h => absurd h (by decide)), rfl⟩
theorem ga_X7_169 : ∀ t ∈ [6], FOk RX7 169 t 78 ∧ (t = 13 → 78 < 2) ∧ isR (tyN t 78) = true := List.forall_mem_singleton.mpr ⟨fo_X7_169_6, (fun h => absurd h (by decide)), rfl⟩
theorem vl_X7_509 : ∀ t ∈ [6], ∃ (C : String) (T : u_T) (N : Nat), cls[t]? = some (C, T, N) ∧ t < 50 ∧ VLk RX7 509 C q_X7_make0 := List.forall_mem_singleton.mpr ⟨_, _, _, cls_X7, by decide, Or.inl ⟨q2044, qs82⟩⟩
theorem ga_X7_166 : ∀ t ∈ [6], FOk RX7 166 t 77 ∧ (t = 13 → 77 < 2) ∧ isR (tyN t 77) = true := List.forall_mem_singleton.mpr ⟨fo_X7_166_6, (fun h => absurd h (by decide)), rfl⟩
theorem fo_X7_491_6 : FOk RX7 491 6 79 := ⟨_, _, _, _, cls_X7, by decide, by decide, in_X7, Or.inl q1516, Or.inl rfl, tyX7_ok, nmX7⟩
theorem ff_X7_6_79 : FFin RX7 6 79 false := ⟨_, _, _, cls_X7, rfl, fun h => by cases h⟩
theorem pa_X7_491 : ∀ t ∈ [6], FOk RX7 491 t 79 ∧ FFin RX7 t 79 false ∧ tyN t 79 = .int := List.forall_mem_singleton.mpr ⟨fo_X7_491_6, ff_X7_6_79, rfl⟩
theorem fo_X7_494_6 : FOk RX7 494 6 80 := ⟨_, _, _, _, cls_X7, by decide, by decide, in_X7, Or.inl q1517, Or.inl rfl, tyX7_ok, nmX7⟩
theorem ff_X7_6_80 : FFin RX7 6 80 false := ⟨_, _, _, cls_X7, rfl, fun h => by cases h⟩
theorem pa_X7_494 : ∀ t ∈ [6], FOk RX7 494 t 80 ∧ FFin RX7 t 80 false ∧ tyN t 80 = .int := List.forall_mem_singleton.mpr ⟨fo_X7_494_6, ff_X7_6_80, rfl⟩
theorem fo_X7_497_6 : FOk RX7 497 6 81 := ⟨_, _, _, _, cls_X7, by decide, by decide, in_X7, Or.inl q1518, Or.inl rfl, tyX7_ok, nmX7⟩
theorem ff_X7_6_81 : FFin RX7 6 81 false := ⟨_, _, _, cls_X7, rfl, fun h => by cases h⟩
theorem pa_X7_497 : ∀ t ∈ [6], FOk RX7 497 t 81 ∧ FFin RX7 t 81 false ∧ (tyN t 81 = .boolean ∨ tyN t 81 = .byte) := List.forall_mem_singleton.mpr ⟨fo_X7_497_6, ff_X7_6_81, Or.inl rfl⟩
theorem vl_X7_500 : ∀ t ∈ [6], ∃ (C : String) (T : u_T) (N : Nat), cls[t]? = some (C, T, N) ∧ t < 50 ∧ VLk RX7 500 C q_X7_lay := List.forall_mem_singleton.mpr ⟨_, _, _, cls_X7, by decide, Or.inl ⟨q2048, qs83⟩⟩
theorem vl_X7_503 : ∀ t ∈ [6], ∃ (C : String) (T : u_T) (N : Nat), cls[t]? = some (C, T, N) ∧ t < 50 ∧ VLk RX7 503 C q_X7_addends := List.forall_mem_singleton.mpr ⟨_, _, _, cls_X7, by decide, Or.inl ⟨q2052, qs84⟩⟩
theorem vl_X7_506 : ∀ t ∈ [6], ∃ (C : String) (T : u_T) (N : Nat), cls[t]? = some (C, T, N) ∧ t < 50 ∧ VLk RX7 506 C q_X7_point := List.forall_mem_singleton.mpr ⟨_, _, _, cls_X7, by decide, Or.inl ⟨q2056, qs85⟩⟩
theorem ga_X7_497 : ∀ t ∈ [6], FOk RX7 497 t 81 ∧ (t = 13 → 81 < 2) ∧ isI (tyN t 81) = true := List.forall_mem_singleton.mpr ⟨fo_X7_497_6, (fun h => absurd h (by decide)), rfl⟩
theorem ga_X7_491 : ∀ t ∈ [6], FOk RX7 491 t 79 ∧ (t = 13 → 79 < 2) ∧ isI (tyN t 79) = true := List.forall_mem_singleton.mpr ⟨fo_X7_491_6, (fun h => absurd h (by decide)), rfl⟩
theorem ga_X7_151 : ∀ t ∈ [6], FOk RX7 151 t 72 ∧ (t = 13 → 72 < 2) ∧ isR (tyN t 72) = true := List.forall_mem_singleton.mpr ⟨fo_X7_151_6, (fun h => absurd h (by decide)), rfl⟩
theorem ga_X7_154 : ∀ t ∈ [6], FOk RX7 154 t 73 ∧ (t = 13 → 73 < 2) ∧ isR (tyN t 73) = true := List.forall_mem_singleton.mpr ⟨fo_X7_154_6, (fun h => absurd h (by decide)), rfl⟩
theorem ga_X7_494 : ∀ t ∈ [6], FOk RX7 494 t 80 ∧ (t = 13 → 80 < 2) ∧ isI (tyN t 80) = true := List.forall_mem_singleton.mpr ⟨fo_X7_494_6, (fun h => absurd h (by decide)), rfl⟩
theorem ga_X7_157 : ∀ t ∈ [6], FOk RX7 157 t 74 ∧ (t = 13 → 74 < 2) ∧ isR (tyN t 74) = true := List.forall_mem_singleton.mpr ⟨fo_X7_157_6, (fun h => absurd h (by decide)), rfl⟩
theorem ga_X7_160 : ∀ t ∈ [6], FOk RX7 160 t 75 ∧ (t = 13 → 75 < 2) ∧ isR (tyN t 75) = true := List.forall_mem_singleton.mpr ⟨fo_X7_160_6, (fun h => absurd h (by decide)), rfl⟩
theorem vl_X7_515 : ∀ t ∈ [6], ∃ (C : String) (T : u_T) (N : Nat), cls[t]? = some (C, T, N) ∧ t < 50 ∧ VLk RX7 515 C q_X7_part := List.forall_mem_singleton.mpr ⟨_, _, _, cls_X7, by decide, Or.inl ⟨q2064, qs86⟩⟩
theorem vl_X7_527 : ∀ t ∈ [6], ∃ (C : String) (T : u_T) (N : Nat), cls[t]? = some (C, T, N) ∧ t < 50 ∧ VLk RX7 527 C q_X7_dues := List.forall_mem_singleton.mpr ⟨_, _, _, cls_X7, by decide, Or.inl ⟨q2076, qs87⟩⟩
theorem fo_X7_518_6 : FOk RX7 518 6 85 := ⟨_, _, _, _, cls_X7, by decide, by decide, in_X7, Or.inl q1522, Or.inl rfl, tyX7_ok, nmX7⟩
theorem ga_X7_518 : ∀ t ∈ [6], FOk RX7 518 t 85 ∧ (t = 13 → 85 < 2) ∧ isI (tyN t 85) = true := List.forall_mem_singleton.mpr ⟨fo_X7_518_6, (fun h => absurd h (by decide)), rfl⟩
theorem fo_X7_530_6 : FOk RX7 530 6 84 := ⟨_, _, _, _, cls_X7, by decide, by decide, in_X7, Or.inl q1521, Or.inl rfl, tyX7_ok, nmX7⟩
theorem ff_X7_6_84 : FFin RX7 6 84 false := ⟨_, _, _, cls_X7, rfl, fun h => by cases h⟩
theorem pa_X7_530 : ∀ t ∈ [6], FOk RX7 530 t 84 ∧ FFin RX7 t 84 false ∧ tyN t 84 = .int := List.forall_mem_singleton.mpr ⟨fo_X7_530_6, ff_X7_6_84, rfl⟩
theorem ga_X7_530 : ∀ t ∈ [6], FOk RX7 530 t 84 ∧ (t = 13 → 84 < 2) ∧ isI (tyN t 84) = true := List.forall_mem_singleton.mpr ⟨fo_X7_530_6, (fun h => absurd h (by decide)), rfl⟩
theorem ga_X7_178 : ∀ t ∈ [6], FOk RX7 178 t 87 ∧ (t = 13 → 87 < 2) ∧ isR (tyN t 87) = true := List.forall_mem_singleton.mpr ⟨fo_X7_178_6, (fun h => absurd h (by decide)), rfl⟩
theorem ga_X7_172 : ∀ t ∈ [6], FOk RX7 172 t 82 ∧ (t = 13 → 82 < 2) ∧ isR (tyN t 82) = true := List.forall_mem_singleton.mpr ⟨fo_X7_172_6, (fun h => absurd h (by decide)), rfl⟩
theorem fo_X7_533_6 : FOk RX7 533 6 86 := ⟨_, _, _, _, cls_X7, by decide, by decide, in_X7, Or.inl q1523, Or.inl rfl, tyX7_ok, nmX7⟩
theorem ff_X7_6_86 : FFin RX7 6 86 false := ⟨_, _, _, cls_X7, rfl, fun h => by cases h⟩
theorem pa_X7_533 : ∀ t ∈ [6], FOk RX7 533 t 86 ∧ FFin RX7 t 86 false ∧ (tyN t 86 = .boolean ∨ tyN t 86 = .byte) := List.forall_mem_singleton.mpr ⟨fo_X7_533_6, ff_X7_6_86, Or.inl rfl⟩
theorem ga_X7_175 : ∀ t ∈ [6], FOk RX7 175 t 83 ∧ (t = 13 → 83 < 2) ∧ isR (tyN t 83) = true := List.forall_mem_singleton.mpr ⟨fo_X7_175_6, (fun h => absurd h (by decide)), rfl⟩
theorem ff_X7_6_85 : FFin RX7 6 85 false := ⟨_, _, _, cls_X7, rfl, fun h => by cases h⟩
theorem pa_X7_518 : ∀ t ∈ [6], FOk RX7 518 t 85 ∧ FFin RX7 t 85 false ∧ tyN t 85 = .int := List.forall_mem_singleton.mpr ⟨fo_X7_518_6, ff_X7_6_85, rfl⟩
theorem vl_X7_521 : ∀ t ∈ [6], ∃ (C : String) (T : u_T) (N : Nat), cls[t]? = some (C, T, N) ∧ t < 50 ∧ VLk RX7 521 C q_X7_added := List.forall_mem_singleton.mpr ⟨_, _, _, cls_X7, by decide, Or.inl ⟨q2080, qs88⟩⟩
theorem vl_X7_524 : ∀ t ∈ [6], ∃ (C : String) (T : u_T) (N : Nat), cls[t]? = some (C, T, N) ∧ t < 50 ∧ VLk RX7 524 C q_X7_dueLine := List.forall_mem_singleton.mpr ⟨_, _, _, cls_X7, by decide, Or.inl ⟨q2084, qs89⟩⟩
theorem ga_X7_533 : ∀ t ∈ [6], FOk RX7 533 t 86 ∧ (t = 13 → 86 < 2) ∧ isI (tyN t 86) = true := List.forall_mem_singleton.mpr ⟨fo_X7_533_6, (fun h => absurd h (by decide)), rfl⟩
theorem ga_X7_32 : ∀ t ∈ [6], FOk RX7 32 t 19 ∧ (t = 13 → 19 < 2) ∧ isR (tyN t 19) = true := List.forall_mem_singleton.mpr ⟨fo_X7_32_6, (fun h => absurd h (by decide)), rfl⟩
theorem vl_X7_536 : ∀ t ∈ [6], ∃ (C : String) (T : u_T) (N : Nat), cls[t]? = some (C, T, N) ∧ t < 50 ∧ VLk RX7 536 C q_X7_isThere := List.forall_mem_singleton.mpr ⟨_, _, _, cls_X7, by decide, Or.inl ⟨q2104, qs90⟩⟩
theorem vl_X7_542 : ∀ t ∈ [6], ∃ (C : String) (T : u_T) (N : Nat), cls[t]? = some (C, T, N) ∧ t < 50 ∧ VLk RX7 542 C q_X7_differ := List.forall_mem_singleton.mpr ⟨_, _, _, cls_X7, by decide, Or.inl ⟨q2112, qs91⟩⟩
theorem ga_X7_187 : ∀ t ∈ [6], FOk RX7 187 t 91 ∧ (t = 13 → 91 < 2) ∧ isR (tyN t 91) = true := List.forall_mem_singleton.mpr ⟨fo_X7_187_6, (fun h => absurd h (by decide)), rfl⟩
theorem vl_X7_539 : ∀ t ∈ [6], ∃ (C : String) (T : u_T) (N : Nat), cls[t]? = some (C, T, N) ∧ t < 50 ∧ VLk RX7 539 C q_X7_isOne := List.forall_mem_singleton.mpr ⟨_, _, _, cls_X7, by decide, Or.inl ⟨q2116, qs92⟩⟩
theorem vl_X7_545 : ∀ t ∈ [6], ∃ (C : String) (T : u_T) (N : Nat), cls[t]? = some (C, T, N) ∧ t < 50 ∧ VLk RX7 545 C q_X7_spell := List.forall_mem_singleton.mpr ⟨_, _, _, cls_X7, by decide, Or.inl ⟨q2124, qs93⟩⟩
theorem vl_X7_548 : ∀ t ∈ [6], ∃ (C : String) (T : u_T) (N : Nat), cls[t]? = some (C, T, N) ∧ t < 50 ∧ VLk RX7 548 C q_X7_ends := List.forall_mem_singleton.mpr ⟨_, _, _, cls_X7, by decide, Or.inl ⟨q2128, qs94⟩⟩
theorem fo_X7_550_6 : FOk RX7 550 6 90 := ⟨_, _, _, _, cls_X7, by decide, by decide, in_X7, Or.inl q1527, Or.inl rfl, tyX7_ok, nmX7⟩
theorem ff_X7_6_90 : FFin RX7 6 90 false := ⟨_, _, _, cls_X7, rfl, fun h => by cases h⟩
theorem pa_X7_550 : ∀ t ∈ [6], FOk RX7 550 t 90 ∧ FFin RX7 t 90 false ∧ tyN t 90 = .int := List.forall_mem_singleton.mpr ⟨fo_X7_550_6, ff_X7_6_90, rfl⟩
theorem ga_X7_184 : ∀ t ∈ [6], FOk RX7 184 t 89 ∧ (t = 13 → 89 < 2) ∧ isR (tyN t 89) = true := List.forall_mem_singleton.mpr ⟨fo_X7_184_6, (fun h => absurd h (by decide)), rfl⟩
theorem ga_X7_181 : ∀ t ∈ [6], FOk RX7 181 t 88 ∧ (t = 13 → 88 < 2) ∧ isR (tyN t 88) = true := List.forall_mem_singleton.mpr ⟨fo_X7_181_6, (fun h => absurd h (by decide)), rfl⟩
theorem ga_X7_550 : ∀ t ∈ [6], FOk RX7 550 t 90 ∧ (t = 13 → 90 < 2) ∧ isI (tyN t 90) = true := List.forall_mem_singleton.mpr ⟨fo_X7_550_6, (fun h => absurd h (by decide)), rfl⟩
theorem fo_X8_9_7 : FOk RX8 9 7 8 := ⟨_, _, _, _, cls_X9, by decide, by decide, in_X9, Or.inl q532, Or.inl rfl, tyX9_ok, nmX9⟩
theorem fo_X8_9_9 : FOk RX8 9 9 8 := ⟨_, _, _, _, cls_X11, by decide, by decide, in_X11, Or.inl q532, Or.inl rfl, tyX11_ok, nmX11⟩
theorem ff_X8_7_8 : FFin RX8 7 8 false := ⟨_, _, _, cls_X9, rfl, fun h => by cases h⟩
theorem ff_X8_9_8 : FFin RX8 9 8 false := ⟨_, _, _, cls_X11, rfl, fun h => by cases h⟩
theorem pa_X8_9 : ∀ t ∈ [7, 9], FOk RX8 9 t 8 ∧ FFin RX8 t 8 false ∧ isR (tyN t 8) = true := List.forall_mem_cons.mpr ⟨⟨fo_X8_9_7, ff_X8_7_8, rfl⟩, List.forall_mem_singleton.mpr ⟨fo_X8_9_9, ff_X8_9_8, rfl⟩⟩
theorem fo_X8_15_7 : FOk RX8 15 7 0 := ⟨_, _, _, _, cls_X9, by decide, by decide, in_X9, Or.inl q516, Or.inl rfl, tyX9_ok, nmX9⟩
theorem fo_X8_15_9 : FOk RX8 15 9 0 := ⟨_, _, _, _, cls_X11, by decide, by decide, in_X11, Or.inl q516, Or.inl rfl, tyX11_ok, nmX11⟩
theorem ff_X8_7_0 : FFin RX8 7 0 true := ⟨_, _, _, cls_X9, rfl, fun h => rfl⟩
theorem ff_X8_9_0 : FFin RX8 9 0 true := ⟨_, _, _, cls_X11, rfl, fun h => rfl⟩
theorem pa_X8_15 : ∀ t ∈ [7, 9], FOk RX8 15 t 0 ∧ FFin RX8 t 0 true ∧ isR (tyN t 0) = true := List.forall_mem_cons.mpr ⟨⟨fo_X8_15_7, ff_X8_7_0, rfl⟩, List.forall_mem_singleton.mpr ⟨fo_X8_15_9, ff_X8_9_0, rfl⟩⟩
theorem fo_X8_19_7 : FOk RX8 19 7 1 := ⟨_, _, _, _, cls_X9, by decide, by decide, in_X9, Or.inl q517, Or.inl rfl, tyX9_ok, nmX9⟩
theorem fo_X8_19_9 : FOk RX8 19 9 1 := ⟨_, _, _, _, cls_X11, by decide, by decide, in_X11, Or.inl q517, Or.inl rfl, tyX11_ok, nmX11⟩
theorem ff_X8_7_1 : FFin RX8 7 1 true := ⟨_, _, _, cls_X9, rfl, fun h => rfl⟩
theorem ff_X8_9_1 : FFin RX8 9 1 true := ⟨_, _, _, cls_X11, rfl, fun h => rfl⟩
theorem pa_X8_19 : ∀ t ∈ [7, 9], FOk RX8 19 t 1 ∧ FFin RX8 t 1 true ∧ tyN t 1 = .int := List.forall_mem_cons.mpr ⟨⟨fo_X8_19_7, ff_X8_7_1, rfl⟩, List.forall_mem_singleton.mpr ⟨fo_X8_19_9, ff_X8_9_1, rfl⟩⟩
theorem fo_X8_23_7 : FOk RX8 23 7 2 := ⟨_, _, _, _, cls_X9, by decide, by decide, in_X9, Or.inl q518, Or.inl rfl, tyX9_ok, nmX9⟩
theorem fo_X8_23_9 : FOk RX8 23 9 2 := ⟨_, _, _, _, cls_X11, by decide, by decide, in_X11, Or.inl q518, Or.inl rfl, tyX11_ok, nmX11⟩
theorem ff_X8_7_2 : FFin RX8 7 2 true := ⟨_, _, _, cls_X9, rfl, fun h => rfl⟩
theorem ff_X8_9_2 : FFin RX8 9 2 true := ⟨_, _, _, cls_X11, rfl, fun h => rfl⟩
theorem pa_X8_23 : ∀ t ∈ [7, 9], FOk RX8 23 t 2 ∧ FFin RX8 t 2 true ∧ tyN t 2 = .int := List.forall_mem_cons.mpr ⟨⟨fo_X8_23_7, ff_X8_7_2, rfl⟩, List.forall_mem_singleton.mpr ⟨fo_X8_23_9, ff_X8_9_2, rfl⟩⟩
theorem fo_X8_26_7 : FOk RX8 26 7 3 := ⟨_, _, _, _, cls_X9, by decide, by decide, in_X9, Or.inl q519, Or.inl rfl, tyX9_ok, nmX9⟩
theorem fo_X8_26_9 : FOk RX8 26 9 3 := ⟨_, _, _, _, cls_X11, by decide, by decide, in_X11, Or.inl q519, Or.inl rfl, tyX11_ok, nmX11⟩
theorem ga_X8_26 : ∀ t ∈ [7, 9], FOk RX8 26 t 3 ∧ (t = 13 → 3 < 2) ∧ isI (tyN t 3) = true := List.forall_mem_cons.mpr ⟨⟨fo_X8_26_7, (fun h => absurd h (by decide)), rfl⟩, List.forall_mem_singleton.mpr ⟨fo_X8_26_9, (fun h => absurd h (by decide)), rfl⟩⟩
theorem ga_X8_19 : ∀ t ∈ [7, 9], FOk RX8 19 t 1 ∧ (t = 13 → 1 < 2) ∧ isI (tyN t 1) = true := List.forall_mem_cons.mpr ⟨⟨fo_X8_19_7, (fun h => by decide), rfl⟩, List.forall_mem_singleton.mpr ⟨fo_X8_19_9, (fun h => by decide), rfl⟩⟩
theorem vl_X8_29 : ∀ t ∈ [7, 9], ∃ (C : String) (T : u_T) (N : Nat), cls[t]? = some (C, T, N) ∧ t < 50 ∧ VLk RX8 29 C q_X8_byteAt := List.forall_mem_cons.mpr ⟨⟨_, _, _, cls_X9, by decide, Or.inr (Or.inr ⟨q570, (List.mem_filter.mpr ⟨q571, rfl⟩), q2140⟩)⟩, List.forall_mem_singleton.mpr ⟨_, _, _, cls_X11, by decide, Or.inr (Or.inr ⟨q570, (List.mem_filter.mpr ⟨q571, rfl⟩), q2140⟩)⟩⟩
theorem ff_X8_7_3 : FFin RX8 7 3 false := ⟨_, _, _, cls_X9, rfl, fun h => by cases h⟩
theorem ff_X8_9_3 : FFin RX8 9 3 false := ⟨_, _, _, cls_X11, rfl, fun h => by cases h⟩
theorem pa_X8_26 : ∀ t ∈ [7, 9], FOk RX8 26 t 3 ∧ FFin RX8 t 3 false ∧ tyN t 3 = .int := List.forall_mem_cons.mpr ⟨⟨fo_X8_26_7, ff_X8_7_3, rfl⟩, List.forall_mem_singleton.mpr ⟨fo_X8_26_9, ff_X8_9_3, rfl⟩⟩
theorem fo_X8_33_7 : FOk RX8 33 7 5 := ⟨_, _, _, _, cls_X9, by decide, by decide, in_X9, Or.inl q527, Or.inl rfl, tyX9_ok, nmX9⟩
theorem fo_X8_33_9 : FOk RX8 33 9 5 := ⟨_, _, _, _, cls_X11, by decide, by decide, in_X11, Or.inl q527, Or.inl rfl, tyX11_ok, nmX11⟩
theorem ff_X8_7_5 : FFin RX8 7 5 false := ⟨_, _, _, cls_X9, rfl, fun h => by cases h⟩
theorem ff_X8_9_5 : FFin RX8 9 5 false := ⟨_, _, _, cls_X11, rfl, fun h => by cases h⟩
theorem pa_X8_33 : ∀ t ∈ [7, 9], FOk RX8 33 t 5 ∧ FFin RX8 t 5 false ∧ tyN t 5 = .int := List.forall_mem_cons.mpr ⟨⟨fo_X8_33_7, ff_X8_7_5, rfl⟩, List.forall_mem_singleton.mpr ⟨fo_X8_33_9, ff_X8_9_5, rfl⟩⟩
theorem ga_X8_23 : ∀ t ∈ [7, 9], FOk RX8 23 t 2 ∧ (t = 13 → 2 < 2) ∧ isI (tyN t 2) = true := List.forall_mem_cons.mpr ⟨⟨fo_X8_23_7, (fun h => absurd h (by decide)), rfl⟩, List.forall_mem_singleton.mpr ⟨fo_X8_23_9, (fun h => absurd h (by decide)), rfl⟩⟩
theorem ga_X8_33 : ∀ t ∈ [7, 9], FOk RX8 33 t 5 ∧ (t = 13 → 5 < 2) ∧ isI (tyN t 5) = true := List.forall_mem_cons.mpr ⟨⟨fo_X8_33_7, (fun h => absurd h (by decide)), rfl⟩, List.forall_mem_singleton.mpr ⟨fo_X8_33_9, (fun h => absurd h (by decide)), rfl⟩⟩
theorem fo_X8_36_7 : FOk RX8 36 7 4 := ⟨_, _, _, _, cls_X9, by decide, by decide, in_X9, Or.inl q524, Or.inl rfl, tyX9_ok, nmX9⟩
theorem fo_X8_36_9 : FOk RX8 36 9 4 := ⟨_, _, _, _, cls_X11, by decide, by decide, in_X11, Or.inl q524, Or.inl rfl, tyX11_ok, nmX11⟩
theorem ff_X8_7_4 : FFin RX8 7 4 false := ⟨_, _, _, cls_X9, rfl, fun h => by cases h⟩
theorem ff_X8_9_4 : FFin RX8 9 4 false := ⟨_, _, _, cls_X11, rfl, fun h => by cases h⟩
theorem pa_X8_36 : ∀ t ∈ [7, 9], FOk RX8 36 t 4 ∧ FFin RX8 t 4 false ∧ tyN t 4 = .int := List.forall_mem_cons.mpr ⟨⟨fo_X8_36_7, ff_X8_7_4, rfl⟩, List.forall_mem_singleton.mpr ⟨fo_X8_36_9, ff_X8_9_4, rfl⟩⟩
theorem vl_X8_43 : ∀ t ∈ [7, 9], ∃ (C : String) (T : u_T) (N : Nat), cls[t]? = some (C, T, N) ∧ t < 50 ∧ VLk RX8 43 C q_X8_letters := List.forall_mem_cons.mpr ⟨⟨_, _, _, cls_X9, by decide, Or.inr (Or.inr ⟨q577, (List.mem_filter.mpr ⟨q578, rfl⟩), q2141⟩)⟩, List.forall_mem_singleton.mpr ⟨_, _, _, cls_X11, by decide, Or.inr (Or.inr ⟨q577, (List.mem_filter.mpr ⟨q578, rfl⟩), q2141⟩)⟩⟩
theorem vl_X8_49 : ∀ t ∈ [7, 9], ∃ (C : String) (T : u_T) (N : Nat), cls[t]? = some (C, T, N) ∧ t < 50 ∧ VLk RX8 49 C q_X8_digits := List.forall_mem_cons.mpr ⟨⟨_, _, _, cls_X9, by decide, Or.inr (Or.inr ⟨q756, (List.mem_filter.mpr ⟨q757, rfl⟩), q2146⟩)⟩, List.forall_mem_singleton.mpr ⟨_, _, _, cls_X11, by decide, Or.inr (Or.inr ⟨q756, (List.mem_filter.mpr ⟨q757, rfl⟩), q2146⟩)⟩⟩
theorem fo_X8_52_7 : FOk RX8 52 7 7 := ⟨_, _, _, _, cls_X9, by decide, by decide, in_X9, Or.inl q531, Or.inl rfl, tyX9_ok, nmX9⟩
theorem fo_X8_52_9 : FOk RX8 52 9 7 := ⟨_, _, _, _, cls_X11, by decide, by decide, in_X11, Or.inl q531, Or.inl rfl, tyX11_ok, nmX11⟩
theorem ff_X8_7_7 : FFin RX8 7 7 false := ⟨_, _, _, cls_X9, rfl, fun h => by cases h⟩
theorem ff_X8_9_7 : FFin RX8 9 7 false := ⟨_, _, _, cls_X11, rfl, fun h => by cases h⟩
theorem pa_X8_52 : ∀ t ∈ [7, 9], FOk RX8 52 t 7 ∧ FFin RX8 t 7 false ∧ tyN t 7 = .int := List.forall_mem_cons.mpr ⟨⟨fo_X8_52_7, ff_X8_7_7, rfl⟩, List.forall_mem_singleton.mpr ⟨fo_X8_52_9, ff_X8_9_7, rfl⟩⟩
theorem ga_X8_15 : ∀ t ∈ [7, 9], FOk RX8 15 t 0 ∧ (t = 13 → 0 < 2) ∧ isR (tyN t 0) = true := List.forall_mem_cons.mpr ⟨⟨fo_X8_15_7, (fun h => by decide), rfl⟩, List.forall_mem_singleton.mpr ⟨fo_X8_15_9, (fun h => by decide), rfl⟩⟩
theorem no_X8_55 : NOk RX8 55 12 4 := ⟨_, _, cls_J7, by decide, in_J7, tyJ7_ok, dk_J7, q581, q582, q113⟩
theorem vl_X8_58 : ∀ t ∈ [12], ∃ (C : String) (T : u_T) (N : Nat), cls[t]? = some (C, T, N) ∧ t < 50 ∧ VLk RX8 58 C q_J7_append := List.forall_mem_singleton.mpr ⟨_, _, _, cls_J7, by decide, Or.inl ⟨q612, q614⟩⟩
theorem vl_X8_62 : ∀ t ∈ [12], ∃ (C : String) (T : u_T) (N : Nat), cls[t]? = some (C, T, N) ∧ t < 50 ∧ VLk RX8 62 C q_J7_toString := List.forall_mem_singleton.mpr ⟨_, _, _, cls_J7, by decide, Or.inl ⟨q692, q694⟩⟩
theorem fo_X8_66_7 : FOk RX8 66 7 6 := ⟨_, _, _, _, cls_X9, by decide, by decide, in_X9, Or.inl q530, Or.inl rfl, tyX9_ok, nmX9⟩
theorem fo_X8_66_9 : FOk RX8 66 9 6 := ⟨_, _, _, _, cls_X11, by decide, by decide, in_X11, Or.inl q530, Or.inl rfl, tyX11_ok, nmX11⟩
theorem ff_X8_7_6 : FFin RX8 7 6 false := ⟨_, _, _, cls_X9, rfl, fun h => by cases h⟩
theorem ff_X8_9_6 : FFin RX8 9 6 false := ⟨_, _, _, cls_X11, rfl, fun h => by cases h⟩
theorem pa_X8_66 : ∀ t ∈ [7, 9], FOk RX8 66 t 6 ∧ FFin RX8 t 6 false ∧ tyN t 6 = .int := List.forall_mem_cons.mpr ⟨⟨fo_X8_66_7, ff_X8_7_6, rfl⟩, List.forall_mem_singleton.mpr ⟨fo_X8_66_9, ff_X8_9_6, rfl⟩⟩
theorem ga_X8_66 : ∀ t ∈ [7, 9], FOk RX8 66 t 6 ∧ (t = 13 → 6 < 2) ∧ isI (tyN t 6) = true := List.forall_mem_cons.mpr ⟨⟨fo_X8_66_7, (fun h => absurd h (by decide)), rfl⟩, List.forall_mem_singleton.mpr ⟨fo_X8_66_9, (fun h => absurd h (by decide)), rfl⟩⟩
theorem dk_X10 : ∀ j, j < 8 → dOk (tyN 8 j) = true := by decide +kernel
theorem no_X8_69 : NOk RX8 69 8 8 := ⟨_, _, cls_X10, by decide, in_X10, tyX10_ok, dk_X10, q784, q785, q119⟩
theorem ga_X8_36 : ∀ t ∈ [7, 9], FOk RX8 36 t 4 ∧ (t = 13 → 4 < 2) ∧ isI (tyN t 4) = true := List.forall_mem_cons.mpr ⟨⟨fo_X8_36_7, (fun h => absurd h (by decide)), rfl⟩, List.forall_mem_singleton.mpr ⟨fo_X8_36_9, (fun h => absurd h (by decide)), rfl⟩⟩
theorem vl_X8_80 : ∀ t ∈ [7, 9], ∃ (C : String) (T : u_T) (N : Nat), cls[t]? = some (C, T, N) ∧ t < 50 ∧ VLk RX8 80 C q_X8_need := List.forall_mem_cons.mpr ⟨⟨_, _, _, cls_X9, by decide, Or.inr (Or.inl ⟨⟨"PlugHall$Tokens", "need", "(ZI)V"⟩, "PlugHall$Tokens", q855, q2148, (Or.inl (List.mem_filter.mpr ⟨q780, rfl⟩)), ⟨by decide, by decide⟩, q2150, rfl⟩)⟩, List.forall_mem_singleton.mpr ⟨_, _, _, cls_X11, by decide, Or.inr (Or.inl ⟨⟨"PlugHall$Tokens", "need", "(ZI)V"⟩, "PlugHall$Tokens", q855, q2148, (Or.inl (List.mem_filter.mpr ⟨q780, rfl⟩)), ⟨by decide, by decide⟩, q2149, rfl⟩)⟩⟩
theorem vl_X8_84 : ∀ t ∈ [7, 9], ∃ (C : String) (T : u_T) (N : Nat), cls[t]? = some (C, T, N) ∧ t < 50 ∧ VLk RX8 84 C q_X8_go := List.forall_mem_cons.mpr ⟨⟨_, _, _, cls_X9, by decide, Or.inr (Or.inl ⟨⟨"PlugHall$Tokens", "go", "()V"⟩, "PlugHall$Tokens", q857, q2151, (Or.inl (List.mem_filter.mpr ⟨q566, rfl⟩)), ⟨by decide, by decide⟩, q2153, rfl⟩)⟩, List.forall_mem_singleton.mpr ⟨_, _, _, cls_X11, by decide, Or.inr (Or.inl ⟨⟨"PlugHall$Tokens", "go", "()V"⟩, "PlugHall$Tokens", q857, q2151, (Or.inl (List.mem_filter.mpr ⟨q566, rfl⟩)), ⟨by decide, by decide⟩, q2152, rfl⟩)⟩⟩
theorem ga_X8_52 : ∀ t ∈ [7, 9], FOk RX8 52 t 7 ∧ (t = 13 → 7 < 2) ∧ isI (tyN t 7) = true := List.forall_mem_cons.mpr ⟨⟨fo_X8_52_7, (fun h => absurd h (by decide)), rfl⟩, List.forall_mem_singleton.mpr ⟨fo_X8_52_9, (fun h => absurd h (by decide)), rfl⟩⟩
theorem ga_X8_9 : ∀ t ∈ [7, 9], FOk RX8 9 t 8 ∧ (t = 13 → 8 < 2) ∧ isR (tyN t 8) = true := List.forall_mem_cons.mpr ⟨⟨fo_X8_9_7, (fun h => absurd h (by decide)), rfl⟩, List.forall_mem_singleton.mpr ⟨fo_X8_9_9, (fun h => absurd h (by decide)), rfl⟩⟩
theorem vl_X8_74 : ∀ t ∈ [13], ∃ (C : String) (T : u_T) (N : Nat), cls[t]? = some (C, T, N) ∧ t < 50 ∧ VLk RX8 74 C q_J8_equals := List.forall_mem_singleton.mpr ⟨_, _, _, cls_J8, by decide, Or.inl ⟨q1065, q772⟩⟩
theorem no_X9_9 : NOk RX9 9 1 3 := ⟨_, _, cls_X2, by decide, in_X2, tyX2_ok, dk_X2, q512, q133, q97⟩
theorem fo_X9_14_7 : FOk RX9 14 7 9 := ⟨_, _, _, _, cls_X9, by decide, by decide, in_X9, Or.inl q514, Or.inl rfl, tyX9_ok, nmX9⟩
theorem ff_X9_7_9 : FFin RX9 7 9 true := ⟨_, _, _, cls_X9, rfl, fun h => rfl⟩
theorem pa_X9_14 : ∀ t ∈ [7], FOk RX9 14 t 9 ∧ FFin RX9 t 9 true ∧ isR (tyN t 9) = true := List.forall_mem_singleton.mpr ⟨fo_X9_14_7, ff_X9_7_9, rfl⟩
theorem fo_X9_20_7 : FOk RX9 20 7 10 := ⟨_, _, _, _, cls_X9, by decide, by decide, in_X9, Or.inl q515, Or.inl rfl, tyX9_ok, nmX9⟩
theorem ff_X9_7_10 : FFin RX9 7 10 true := ⟨_, _, _, cls_X9, rfl, fun h => rfl⟩
theorem pa_X9_20 : ∀ t ∈ [7], FOk RX9 20 t 10 ∧ FFin RX9 t 10 true ∧ isR (tyN t 10) = true := List.forall_mem_singleton.mpr ⟨fo_X9_20_7, ff_X9_7_10, rfl⟩
theorem vl_X9_59 : ∀ t ∈ [7], ∃ (C : String) (T : u_T) (N : Nat), cls[t]? = some (C, T, N) ∧ t < 50 ∧ VLk RX9 59 C q_X8_go := List.forall_mem_singleton.mpr ⟨_, _, _, cls_X9, by decide, Or.inr (Or.inl ⟨⟨"PlugHall$Reader", "go", "()V"⟩, "PlugHall$Tokens", q564, q565, (Or.inl (List.mem_filter.mpr ⟨q566, rfl⟩)), ⟨by decide, by decide⟩, q567, rfl⟩)⟩
theorem fo_X9_28_7 : FOk RX9 28 7 4 := ⟨_, _, _, _, cls_X9, by decide, by decide, in_X9, Or.inl q522, Or.inr q523, tyX9_ok, nmX9⟩
theorem ga_X9_28 : ∀ t ∈ [7], FOk RX9 28 t 4 ∧ (t = 13 → 4 < 2) ∧ isI (tyN t 4) = true := List.forall_mem_singleton.mpr ⟨fo_X9_28_7, (fun h => absurd h (by decide)), rfl⟩
theorem vl_X9_86 : ∀ t ∈ [7], ∃ (C : String) (T : u_T) (N : Nat), cls[t]? = some (C, T, N) ∧ t < 50 ∧ VLk RX9 86 C q_X9_hub := List.forall_mem_singleton.mpr ⟨_, _, _, cls_X9, by decide, Or.inl ⟨q760, qs2⟩⟩
theorem vl_X9_73 : ∀ t ∈ [7], ∃ (C : String) (T : u_T) (N : Nat), cls[t]? = some (C, T, N) ∧ t < 50 ∧ VLk RX9 73 C q_X8_sign := List.forall_mem_singleton.mpr ⟨_, _, _, cls_X9, by decide, Or.inr (Or.inl ⟨⟨"PlugHall$Reader", "sign", "(I)V"⟩, "PlugHall$Tokens", q858, q859, (Or.inl (List.mem_filter.mpr ⟨q860, rfl⟩)), ⟨by decide, by decide⟩, q861, rfl⟩)⟩
theorem ga_X9_14 : ∀ t ∈ [7], FOk RX9 14 t 9 ∧ (t = 13 → 9 < 2) ∧ isR (tyN t 9) = true := List.forall_mem_singleton.mpr ⟨fo_X9_14_7, (fun h => absurd h (by decide)), rfl⟩
theorem vl_X9_89 : ∀ t ∈ [1], ∃ (C : String) (T : u_T) (N : Nat), cls[t]? = some (C, T, N) ∧ t < 50 ∧ VLk RX9 89 C q_X2_add := List.forall_mem_singleton.mpr ⟨_, _, _, cls_X2, by decide, Or.inl ⟨q869, q871⟩⟩
theorem vl_X9_45 : ∀ t ∈ [7], ∃ (C : String) (T : u_T) (N : Nat), cls[t]? = some (C, T, N) ∧ t < 50 ∧ VLk RX9 45 C q_X9_sort := List.forall_mem_singleton.mpr ⟨_, _, _, cls_X9, by decide, Or.inl ⟨q764, qs3⟩⟩
theorem vl_X9_49 : ∀ t ∈ [7], ∃ (C : String) (T : u_T) (N : Nat), cls[t]? = some (C, T, N) ∧ t < 50 ∧ VLk RX9 49 C q_X8_need := List.forall_mem_singleton.mpr ⟨_, _, _, cls_X9, by decide, Or.inr (Or.inl ⟨⟨"PlugHall$Reader", "need", "(ZI)V"⟩, "PlugHall$Tokens", q778, q779, (Or.inl (List.mem_filter.mpr ⟨q780, rfl⟩)), ⟨by decide, by decide⟩, q781, rfl⟩)⟩
theorem fo_X9_53_1 : FOk RX9 53 1 2 := ⟨_, _, _, _, cls_X2, by decide, by decide, in_X2, Or.inr ⟨_, (List.mem_filter.mpr ⟨q145, rfl⟩)⟩, Or.inl rfl, tyX2_ok, nmX2⟩
theorem ga_X9_53 : ∀ t ∈ [1], FOk RX9 53 t 2 ∧ (t = 13 → 2 < 2) ∧ isI (tyN t 2) = true := List.forall_mem_singleton.mpr ⟨fo_X9_53_1, (fun h => absurd h (by decide)), rfl⟩
theorem fo_X9_56_7 : FOk RX9 56 7 5 := ⟨_, _, _, _, cls_X9, by decide, by decide, in_X9, Or.inl q525, Or.inr q526, tyX9_ok, nmX9⟩
theorem ga_X9_56 : ∀ t ∈ [7], FOk RX9 56 t 5 ∧ (t = 13 → 5 < 2) ∧ isI (tyN t 5) = true := List.forall_mem_singleton.mpr ⟨fo_X9_56_7, (fun h => absurd h (by decide)), rfl⟩
theorem vl_X9_66 : ∀ t ∈ [7], ∃ (C : String) (T : u_T) (N : Nat), cls[t]? = some (C, T, N) ∧ t < 50 ∧ VLk RX9 66 C q_X8_number := List.forall_mem_singleton.mpr ⟨_, _, _, cls_X9, by decide, Or.inr (Or.inl ⟨⟨"PlugHall$Reader", "number", "(II)I"⟩, "PlugHall$Tokens", q849, q850, (Or.inl (List.mem_filter.mpr ⟨q851, rfl⟩)), ⟨by decide, by decide⟩, q852, rfl⟩)⟩
theorem ga_X9_20 : ∀ t ∈ [7], FOk RX9 20 t 10 ∧ (t = 13 → 10 < 2) ∧ isR (tyN t 10) = true := List.forall_mem_singleton.mpr ⟨fo_X9_20_7, (fun h => absurd h (by decide)), rfl⟩
theorem no_X9_81 : NOk RX9 81 8 8 := ⟨_, _, cls_X10, by decide, in_X10, tyX10_ok, dk_X10, q867, q785, q119⟩
theorem fo_X9_38_7 : FOk RX9 38 7 8 := ⟨_, _, _, _, cls_X9, by decide, by decide, in_X9, Or.inl q535, Or.inr q536, tyX9_ok, nmX9⟩
theorem ga_X9_38 : ∀ t ∈ [7], FOk RX9 38 t 8 ∧ (t = 13 → 8 < 2) ∧ isR (tyN t 8) = true := List.forall_mem_singleton.mpr ⟨fo_X9_38_7, (fun h => absurd h (by decide)), rfl⟩
theorem vl_X9_39 : ∀ t ∈ [13], ∃ (C : String) (T : u_T) (N : Nat), cls[t]? = some (C, T, N) ∧ t < 50 ∧ VLk RX9 39 C q_J8_equals := List.forall_mem_singleton.mpr ⟨_, _, _, cls_J8, by decide, Or.inl ⟨q770, q772⟩⟩
theorem dk_X1 : ∀ j, j < 36 → dOk (tyN 0 j) = true := by decide +kernel
theorem no_X0_8 : NOk RX0 8 0 36 := ⟨_, _, cls_X1, by decide, in_X1, tyX1_ok, dk_X1, q122, q123, q96⟩
theorem dk_X7 : ∀ j, j < 92 → dOk (tyN 6 j) = true := by decide +kernel
theorem no_X0_27 : NOk RX0 27 6 92 := ⟨_, _, cls_X7, by decide, in_X7, tyX7_ok, dk_X7, q1431, q1432, q102⟩
theorem vl_X0_30 : ∀ t ∈ [0], ∃ (C : String) (T : u_T) (N : Nat), cls[t]? = some (C, T, N) ∧ t < 50 ∧ VLk RX0 30 C q_X1_feed := List.forall_mem_singleton.mpr ⟨_, _, _, cls_X1, by decide, Or.inl ⟨q444, q446⟩⟩
theorem vl_X0_34 : ∀ t ∈ [6], ∃ (C : String) (T : u_T) (N : Nat), cls[t]? = some (C, T, N) ∧ t < 50 ∧ VLk RX0 34 C q_X7_feed := List.forall_mem_singleton.mpr ⟨_, _, _, cls_X7, by decide, Or.inl ⟨q1718, q1720⟩⟩
theorem vl_X0_35 : ∀ t ∈ [0], ∃ (C : String) (T : u_T) (N : Nat), cls[t]? = some (C, T, N) ∧ t < 50 ∧ VLk RX0 35 C q_X1_end := List.forall_mem_singleton.mpr ⟨_, _, _, cls_X1, by decide, Or.inl ⟨q452, q454⟩⟩
theorem vl_X0_39 : ∀ t ∈ [6], ∃ (C : String) (T : u_T) (N : Nat), cls[t]? = some (C, T, N) ∧ t < 50 ∧ VLk RX0 39 C q_X7_end := List.forall_mem_singleton.mpr ⟨_, _, _, cls_X7, by decide, Or.inl ⟨q1726, q1728⟩⟩
theorem vl_X0_40 : ∀ t ∈ [0], ∃ (C : String) (T : u_T) (N : Nat), cls[t]? = some (C, T, N) ∧ t < 50 ∧ VLk RX0 40 C q_X1_card := List.forall_mem_singleton.mpr ⟨_, _, _, cls_X1, by decide, Or.inl ⟨q456, q458⟩⟩
theorem vl_X0_43 : ∀ t ∈ [6], ∃ (C : String) (T : u_T) (N : Nat), cls[t]? = some (C, T, N) ∧ t < 50 ∧ VLk RX0 43 C q_X7_card := List.forall_mem_singleton.mpr ⟨_, _, _, cls_X7, by decide, Or.inl ⟨q1730, q1732⟩⟩
theorem vl_X0_44 : ∀ t ∈ [0], ∃ (C : String) (T : u_T) (N : Nat), cls[t]? = some (C, T, N) ∧ t < 50 ∧ VLk RX0 44 C q_X1_cards := List.forall_mem_singleton.mpr ⟨_, _, _, cls_X1, by decide, Or.inl ⟨q489, q491⟩⟩
theorem vl_X0_47 : ∀ t ∈ [6], ∃ (C : String) (T : u_T) (N : Nat), cls[t]? = some (C, T, N) ∧ t < 50 ∧ VLk RX0 47 C q_X7_cards := List.forall_mem_singleton.mpr ⟨_, _, _, cls_X7, by decide, Or.inl ⟨q1748, q1750⟩⟩
theorem vl_X0_53 : ∀ t ∈ [6], ∃ (C : String) (T : u_T) (N : Nat), cls[t]? = some (C, T, N) ∧ t < 50 ∧ VLk RX0 53 C q_X7_column := List.forall_mem_singleton.mpr ⟨_, _, _, cls_X7, by decide, Or.inl ⟨q1752, q1754⟩⟩
theorem vl_X0_54 : ∀ t ∈ [6], ∃ (C : String) (T : u_T) (N : Nat), cls[t]? = some (C, T, N) ∧ t < 50 ∧ VLk RX0 54 C q_X7_thrown := List.forall_mem_singleton.mpr ⟨_, _, _, cls_X7, by decide, Or.inl ⟨q1714, q1716⟩⟩
theorem vl_X0_58 : ∀ t ∈ [0], ∃ (C : String) (T : u_T) (N : Nat), cls[t]? = some (C, T, N) ∧ t < 50 ∧ VLk RX0 58 C q_X1_empty := List.forall_mem_singleton.mpr ⟨_, _, _, cls_X1, by decide, Or.inl ⟨q493, q495⟩⟩
theorem vl_X0_61 : ∀ t ∈ [6], ∃ (C : String) (T : u_T) (N : Nat), cls[t]? = some (C, T, N) ∧ t < 50 ∧ VLk RX0 61 C q_X7_empty := List.forall_mem_singleton.mpr ⟨_, _, _, cls_X7, by decide, Or.inl ⟨q1760, q1762⟩⟩
theorem vl_X0_62 : ∀ t ∈ [0], ∃ (C : String) (T : u_T) (N : Nat), cls[t]? = some (C, T, N) ∧ t < 50 ∧ VLk RX0 62 C q_X1_board := List.forall_mem_singleton.mpr ⟨_, _, _, cls_X1, by decide, Or.inl ⟨q497, q499⟩⟩
theorem vl_X0_65 : ∀ t ∈ [6], ∃ (C : String) (T : u_T) (N : Nat), cls[t]? = some (C, T, N) ∧ t < 50 ∧ VLk RX0 65 C q_X7_board := List.forall_mem_singleton.mpr ⟨_, _, _, cls_X7, by decide, Or.inl ⟨q1768, q1770⟩⟩
theorem vl_X0_66 : ∀ t ∈ [0], ∃ (C : String) (T : u_T) (N : Nat), cls[t]? = some (C, T, N) ∧ t < 50 ∧ VLk RX0 66 C q_X1_fault := List.forall_mem_singleton.mpr ⟨_, _, _, cls_X1, by decide, Or.inl ⟨q873, q875⟩⟩
theorem vl_X0_69 : ∀ t ∈ [6], ∃ (C : String) (T : u_T) (N : Nat), cls[t]? = some (C, T, N) ∧ t < 50 ∧ VLk RX0 69 C q_X7_fault := List.forall_mem_singleton.mpr ⟨_, _, _, cls_X7, by decide, Or.inl ⟨q1764, q1766⟩⟩
theorem vl_X0_70 : ∀ t ∈ [0], ∃ (C : String) (T : u_T) (N : Nat), cls[t]? = some (C, T, N) ∧ t < 50 ∧ VLk RX0 70 C q_X1_run := List.forall_mem_singleton.mpr ⟨_, _, _, cls_X1, by decide, Or.inl ⟨q877, q879⟩⟩
theorem vl_X0_73 : ∀ t ∈ [6], ∃ (C : String) (T : u_T) (N : Nat), cls[t]? = some (C, T, N) ∧ t < 50 ∧ VLk RX0 73 C q_X7_run := List.forall_mem_singleton.mpr ⟨_, _, _, cls_X7, by decide, Or.inl ⟨q1843, q1845⟩⟩
theorem vl_X0_74 : ∀ t ∈ [0], ∃ (C : String) (T : u_T) (N : Nat), cls[t]? = some (C, T, N) ∧ t < 50 ∧ VLk RX0 74 C q_X1_ran := List.forall_mem_singleton.mpr ⟨_, _, _, cls_X1, by decide, Or.inl ⟨q954, q956⟩⟩
theorem vl_X0_77 : ∀ t ∈ [6], ∃ (C : String) (T : u_T) (N : Nat), cls[t]? = some (C, T, N) ∧ t < 50 ∧ VLk RX0 77 C q_X7_ran := List.forall_mem_singleton.mpr ⟨_, _, _, cls_X7, by decide, Or.inl ⟨q1905, q1907⟩⟩
theorem vl_X0_81 : ∀ t ∈ [6], ∃ (C : String) (T : u_T) (N : Nat), cls[t]? = some (C, T, N) ∧ t < 50 ∧ VLk RX0 81 C q_X7_bar := List.forall_mem_singleton.mpr ⟨_, _, _, cls_X7, by decide, Or.inl ⟨q1909, q1911⟩⟩
theorem vl_X0_85 : ∀ t ∈ [6], ∃ (C : String) (T : u_T) (N : Nat), cls[t]? = some (C, T, N) ∧ t < 50 ∧ VLk RX0 85 C q_X7_wheel := List.forall_mem_singleton.mpr ⟨_, _, _, cls_X7, by decide, Or.inl ⟨q1913, q1915⟩⟩
theorem vl_X0_86 : ∀ t ∈ [0], ∃ (C : String) (T : u_T) (N : Nat), cls[t]? = some (C, T, N) ∧ t < 50 ∧ VLk RX0 86 C q_X1_pass := List.forall_mem_singleton.mpr ⟨_, _, _, cls_X1, by decide, Or.inl ⟨q958, q960⟩⟩
theorem vl_X0_90 : ∀ t ∈ [6], ∃ (C : String) (T : u_T) (N : Nat), cls[t]? = some (C, T, N) ∧ t < 50 ∧ VLk RX0 90 C q_X7_pass := List.forall_mem_singleton.mpr ⟨_, _, _, cls_X7, by decide, Or.inl ⟨q1917, q1919⟩⟩
theorem vl_X0_91 : ∀ t ∈ [0], ∃ (C : String) (T : u_T) (N : Nat), cls[t]? = some (C, T, N) ∧ t < 50 ∧ VLk RX0 91 C q_X1_idle := List.forall_mem_singleton.mpr ⟨_, _, _, cls_X1, by decide, Or.inl ⟨q968, q970⟩⟩
theorem vl_X0_94 : ∀ t ∈ [6], ∃ (C : String) (T : u_T) (N : Nat), cls[t]? = some (C, T, N) ∧ t < 50 ∧ VLk RX0 94 C q_X7_idle := List.forall_mem_singleton.mpr ⟨_, _, _, cls_X7, by decide, Or.inl ⟨q1940, q1942⟩⟩
theorem vl_X0_95 : ∀ t ∈ [0], ∃ (C : String) (T : u_T) (N : Nat), cls[t]? = some (C, T, N) ∧ t < 50 ∧ VLk RX0 95 C q_X1_missing := List.forall_mem_singleton.mpr ⟨_, _, _, cls_X1, by decide, Or.inl ⟨q991, q993⟩⟩
theorem vl_X0_98 : ∀ t ∈ [6], ∃ (C : String) (T : u_T) (N : Nat), cls[t]? = some (C, T, N) ∧ t < 50 ∧ VLk RX0 98 C q_X7_missing := List.forall_mem_singleton.mpr ⟨_, _, _, cls_X7, by decide, Or.inl ⟨q1948, q1950⟩⟩
theorem vl_X0_99 : ∀ t ∈ [0], ∃ (C : String) (T : u_T) (N : Nat), cls[t]? = some (C, T, N) ∧ t < 50 ∧ VLk RX0 99 C q_X1_wire := List.forall_mem_singleton.mpr ⟨_, _, _, cls_X1, by decide, Or.inl ⟨q1005, q1007⟩⟩
theorem vl_X0_102 : ∀ t ∈ [6], ∃ (C : String) (T : u_T) (N : Nat), cls[t]? = some (C, T, N) ∧ t < 50 ∧ VLk RX0 102 C q_X7_wire := List.forall_mem_singleton.mpr ⟨_, _, _, cls_X7, by decide, Or.inl ⟨q1960, q1962⟩⟩
theorem vl_X0_103 : ∀ t ∈ [0], ∃ (C : String) (T : u_T) (N : Nat), cls[t]? = some (C, T, N) ∧ t < 50 ∧ VLk RX0 103 C q_X1_tests := List.forall_mem_singleton.mpr ⟨_, _, _, cls_X1, by decide, Or.inl ⟨q1009, q1011⟩⟩
theorem vl_X0_106 : ∀ t ∈ [6], ∃ (C : String) (T : u_T) (N : Nat), cls[t]? = some (C, T, N) ∧ t < 50 ∧ VLk RX0 106 C q_X7_tests := List.forall_mem_singleton.mpr ⟨_, _, _, cls_X7, by decide, Or.inl ⟨q1964, q1966⟩⟩
theorem vl_X0_107 : ∀ t ∈ [0], ∃ (C : String) (T : u_T) (N : Nat), cls[t]? = some (C, T, N) ∧ t < 50 ∧ VLk RX0 107 C q_X1_testSet := List.forall_mem_singleton.mpr ⟨_, _, _, cls_X1, by decide, Or.inl ⟨q1018, q1020⟩⟩
theorem vl_X0_110 : ∀ t ∈ [6], ∃ (C : String) (T : u_T) (N : Nat), cls[t]? = some (C, T, N) ∧ t < 50 ∧ VLk RX0 110 C q_X7_testSet := List.forall_mem_singleton.mpr ⟨_, _, _, cls_X7, by decide, Or.inl ⟨q1968, q1970⟩⟩
theorem vl_X0_111 : ∀ t ∈ [0], ∃ (C : String) (T : u_T) (N : Nat), cls[t]? = some (C, T, N) ∧ t < 50 ∧ VLk RX0 111 C q_X1_shown := List.forall_mem_singleton.mpr ⟨_, _, _, cls_X1, by decide, Or.inl ⟨q1022, q1024⟩⟩
theorem vl_X0_114 : ∀ t ∈ [6], ∃ (C : String) (T : u_T) (N : Nat), cls[t]? = some (C, T, N) ∧ t < 50 ∧ VLk RX0 114 C q_X7_shown := List.forall_mem_singleton.mpr ⟨_, _, _, cls_X7, by decide, Or.inl ⟨q1972, q1974⟩⟩
theorem vl_X0_115 : ∀ t ∈ [0], ∃ (C : String) (T : u_T) (N : Nat), cls[t]? = some (C, T, N) ∧ t < 50 ∧ VLk RX0 115 C q_X1_job := List.forall_mem_singleton.mpr ⟨_, _, _, cls_X1, by decide, Or.inl ⟨q1026, q1028⟩⟩
theorem vl_X0_118 : ∀ t ∈ [6], ∃ (C : String) (T : u_T) (N : Nat), cls[t]? = some (C, T, N) ∧ t < 50 ∧ VLk RX0 118 C q_X7_job := List.forall_mem_singleton.mpr ⟨_, _, _, cls_X7, by decide, Or.inl ⟨q1999, q2001⟩⟩
theorem vl_X0_119 : ∀ t ∈ [0], ∃ (C : String) (T : u_T) (N : Nat), cls[t]? = some (C, T, N) ∧ t < 50 ∧ VLk RX0 119 C q_X1_runs := List.forall_mem_singleton.mpr ⟨_, _, _, cls_X1, by decide, Or.inl ⟨q1238, q1240⟩⟩
theorem vl_X0_122 : ∀ t ∈ [6], ∃ (C : String) (T : u_T) (N : Nat), cls[t]? = some (C, T, N) ∧ t < 50 ∧ VLk RX0 122 C q_X7_runs := List.forall_mem_singleton.mpr ⟨_, _, _, cls_X7, by decide, Or.inl ⟨q2036, q2038⟩⟩
theorem vl_X0_123 : ∀ t ∈ [0], ∃ (C : String) (T : u_T) (N : Nat), cls[t]? = some (C, T, N) ∧ t < 50 ∧ VLk RX0 123 C q_X1_wants := List.forall_mem_singleton.mpr ⟨_, _, _, cls_X1, by decide, Or.inl ⟨q1242, q1244⟩⟩
theorem vl_X0_126 : ∀ t ∈ [6], ∃ (C : String) (T : u_T) (N : Nat), cls[t]? = some (C, T, N) ∧ t < 50 ∧ VLk RX0 126 C q_X7_wants := List.forall_mem_singleton.mpr ⟨_, _, _, cls_X7, by decide, Or.inl ⟨q2060, q2062⟩⟩
theorem vl_X0_127 : ∀ t ∈ [0], ∃ (C : String) (T : u_T) (N : Nat), cls[t]? = some (C, T, N) ∧ t < 50 ∧ VLk RX0 127 C q_X1_make := List.forall_mem_singleton.mpr ⟨_, _, _, cls_X1, by decide, Or.inl ⟨q1250, q1252⟩⟩
theorem vl_X0_130 : ∀ t ∈ [6], ∃ (C : String) (T : u_T) (N : Nat), cls[t]? = some (C, T, N) ∧ t < 50 ∧ VLk RX0 130 C q_X7_make := List.forall_mem_singleton.mpr ⟨_, _, _, cls_X7, by decide, Or.inl ⟨q2068, q2070⟩⟩
theorem vl_X0_131 : ∀ t ∈ [0], ∃ (C : String) (T : u_T) (N : Nat), cls[t]? = some (C, T, N) ∧ t < 50 ∧ VLk RX0 131 C q_X1_wanted := List.forall_mem_singleton.mpr ⟨_, _, _, cls_X1, by decide, Or.inl ⟨q1254, q1256⟩⟩
theorem vl_X0_134 : ∀ t ∈ [6], ∃ (C : String) (T : u_T) (N : Nat), cls[t]? = some (C, T, N) ∧ t < 50 ∧ VLk RX0 134 C q_X7_wanted := List.forall_mem_singleton.mpr ⟨_, _, _, cls_X7, by decide, Or.inl ⟨q2072, q2074⟩⟩
theorem vl_X0_137 : ∀ t ∈ [6], ∃ (C : String) (T : u_T) (N : Nat), cls[t]? = some (C, T, N) ∧ t < 50 ∧ VLk RX0 137 C q_X7_wantedAt := List.forall_mem_singleton.mpr ⟨_, _, _, cls_X7, by decide, Or.inl ⟨q2088, q2090⟩⟩
theorem vl_X0_138 : ∀ t ∈ [0], ∃ (C : String) (T : u_T) (N : Nat), cls[t]? = some (C, T, N) ∧ t < 50 ∧ VLk RX0 138 C q_X1_same := List.forall_mem_singleton.mpr ⟨_, _, _, cls_X1, by decide, Or.inl ⟨q1280, q1282⟩⟩
theorem vl_X0_141 : ∀ t ∈ [6], ∃ (C : String) (T : u_T) (N : Nat), cls[t]? = some (C, T, N) ∧ t < 50 ∧ VLk RX0 141 C q_X7_same := List.forall_mem_singleton.mpr ⟨_, _, _, cls_X7, by decide, Or.inl ⟨q2092, q2094⟩⟩
theorem vl_X0_142 : ∀ t ∈ [0], ∃ (C : String) (T : u_T) (N : Nat), cls[t]? = some (C, T, N) ∧ t < 50 ∧ VLk RX0 142 C q_X1_needed := List.forall_mem_singleton.mpr ⟨_, _, _, cls_X1, by decide, Or.inl ⟨q1284, q1286⟩⟩
theorem vl_X0_145 : ∀ t ∈ [6], ∃ (C : String) (T : u_T) (N : Nat), cls[t]? = some (C, T, N) ∧ t < 50 ∧ VLk RX0 145 C q_X7_needed := List.forall_mem_singleton.mpr ⟨_, _, _, cls_X7, by decide, Or.inl ⟨q1925, q1927⟩⟩
theorem vl_X0_146 : ∀ t ∈ [0], ∃ (C : String) (T : u_T) (N : Nat), cls[t]? = some (C, T, N) ∧ t < 50 ∧ VLk RX0 146 C q_X1_neededSet := List.forall_mem_singleton.mpr ⟨_, _, _, cls_X1, by decide, Or.inl ⟨q1292, q1294⟩⟩
theorem vl_X0_149 : ∀ t ∈ [6], ∃ (C : String) (T : u_T) (N : Nat), cls[t]? = some (C, T, N) ∧ t < 50 ∧ VLk RX0 149 C q_X7_neededSet := List.forall_mem_singleton.mpr ⟨_, _, _, cls_X7, by decide, Or.inl ⟨q1936, q1938⟩⟩
theorem vl_X0_150 : ∀ t ∈ [0], ∃ (C : String) (T : u_T) (N : Nat), cls[t]? = some (C, T, N) ∧ t < 50 ∧ VLk RX0 150 C q_X1_unseen := List.forall_mem_singleton.mpr ⟨_, _, _, cls_X1, by decide, Or.inl ⟨q1296, q1298⟩⟩
theorem vl_X0_153 : ∀ t ∈ [6], ∃ (C : String) (T : u_T) (N : Nat), cls[t]? = some (C, T, N) ∧ t < 50 ∧ VLk RX0 153 C q_X7_unseen := List.forall_mem_singleton.mpr ⟨_, _, _, cls_X7, by decide, Or.inl ⟨q1976, q1978⟩⟩
theorem vl_X0_154 : ∀ t ∈ [0], ∃ (C : String) (T : u_T) (N : Nat), cls[t]? = some (C, T, N) ∧ t < 50 ∧ VLk RX0 154 C q_X1_unseenAt := List.forall_mem_singleton.mpr ⟨_, _, _, cls_X1, by decide, Or.inl ⟨q1301, q1303⟩⟩
theorem vl_X0_157 : ∀ t ∈ [6], ∃ (C : String) (T : u_T) (N : Nat), cls[t]? = some (C, T, N) ∧ t < 50 ∧ VLk RX0 157 C q_X7_unseenAt := List.forall_mem_singleton.mpr ⟨_, _, _, cls_X7, by decide, Or.inl ⟨q1980, q1982⟩⟩
theorem vl_X0_158 : ∀ t ∈ [0], ∃ (C : String) (T : u_T) (N : Nat), cls[t]? = some (C, T, N) ∧ t < 50 ∧ VLk RX0 158 C q_X1_moves := List.forall_mem_singleton.mpr ⟨_, _, _, cls_X1, by decide, Or.inl ⟨q1305, q1307⟩⟩
theorem vl_X0_161 : ∀ t ∈ [6], ∃ (C : String) (T : u_T) (N : Nat), cls[t]? = some (C, T, N) ∧ t < 50 ∧ VLk RX0 161 C q_X7_moves := List.forall_mem_singleton.mpr ⟨_, _, _, cls_X7, by decide, Or.inl ⟨q1984, q1986⟩⟩
theorem vl_X0_162 : ∀ t ∈ [0], ∃ (C : String) (T : u_T) (N : Nat), cls[t]? = some (C, T, N) ∧ t < 50 ∧ VLk RX0 162 C q_X1_move := List.forall_mem_singleton.mpr ⟨_, _, _, cls_X1, by decide, Or.inl ⟨q1327, q1329⟩⟩
theorem vl_X0_165 : ∀ t ∈ [6], ∃ (C : String) (T : u_T) (N : Nat), cls[t]? = some (C, T, N) ∧ t < 50 ∧ VLk RX0 165 C q_X7_move := List.forall_mem_singleton.mpr ⟨_, _, _, cls_X7, by decide, Or.inl ⟨q1995, q1997⟩⟩
theorem vl_X0_166 : ∀ t ∈ [0], ∃ (C : String) (T : u_T) (N : Nat), cls[t]? = some (C, T, N) ∧ t < 50 ∧ VLk RX0 166 C q_X1_keep := List.forall_mem_singleton.mpr ⟨_, _, _, cls_X1, by decide, Or.inl ⟨q1331, q1333⟩⟩
theorem vl_X0_169 : ∀ t ∈ [6], ∃ (C : String) (T : u_T) (N : Nat), cls[t]? = some (C, T, N) ∧ t < 50 ∧ VLk RX0 169 C q_X7_keep := List.forall_mem_singleton.mpr ⟨_, _, _, cls_X7, by decide, Or.inl ⟨q2096, q2098⟩⟩
theorem vl_X0_170 : ∀ t ∈ [0], ∃ (C : String) (T : u_T) (N : Nat), cls[t]? = some (C, T, N) ∧ t < 50 ∧ VLk RX0 170 C q_X1_use := List.forall_mem_singleton.mpr ⟨_, _, _, cls_X1, by decide, Or.inl ⟨q1335, q1337⟩⟩
theorem vl_X0_173 : ∀ t ∈ [6], ∃ (C : String) (T : u_T) (N : Nat), cls[t]? = some (C, T, N) ∧ t < 50 ∧ VLk RX0 173 C q_X7_use := List.forall_mem_singleton.mpr ⟨_, _, _, cls_X7, by decide, Or.inl ⟨q2100, q2102⟩⟩
theorem vl_X0_174 : ∀ t ∈ [0], ∃ (C : String) (T : u_T) (N : Nat), cls[t]? = some (C, T, N) ∧ t < 50 ∧ VLk RX0 174 C q_X1_apart := List.forall_mem_singleton.mpr ⟨_, _, _, cls_X1, by decide, Or.inl ⟨q1343, q1345⟩⟩
theorem vl_X0_177 : ∀ t ∈ [6], ∃ (C : String) (T : u_T) (N : Nat), cls[t]? = some (C, T, N) ∧ t < 50 ∧ VLk RX0 177 C q_X7_apart := List.forall_mem_singleton.mpr ⟨_, _, _, cls_X7, by decide, Or.inl ⟨q2108, q2110⟩⟩
theorem vl_X0_178 : ∀ t ∈ [0], ∃ (C : String) (T : u_T) (N : Nat), cls[t]? = some (C, T, N) ∧ t < 50 ∧ VLk RX0 178 C q_X1_friday := List.forall_mem_singleton.mpr ⟨_, _, _, cls_X1, by decide, Or.inl ⟨q1359, q1361⟩⟩
theorem vl_X0_181 : ∀ t ∈ [6], ∃ (C : String) (T : u_T) (N : Nat), cls[t]? = some (C, T, N) ∧ t < 50 ∧ VLk RX0 181 C q_X7_friday := List.forall_mem_singleton.mpr ⟨_, _, _, cls_X7, by decide, Or.inl ⟨q2120, q2122⟩⟩
theorem vl_X0_182 : ∀ t ∈ [0], ∃ (C : String) (T : u_T) (N : Nat), cls[t]? = some (C, T, N) ∧ t < 50 ∧ VLk RX0 182 C q_X1_fridayAt := List.forall_mem_singleton.mpr ⟨_, _, _, cls_X1, by decide, Or.inl ⟨q1371, q1373⟩⟩
theorem vl_X0_185 : ∀ t ∈ [6], ∃ (C : String) (T : u_T) (N : Nat), cls[t]? = some (C, T, N) ∧ t < 50 ∧ VLk RX0 185 C q_X7_fridayAt := List.forall_mem_singleton.mpr ⟨_, _, _, cls_X7, by decide, Or.inl ⟨q2132, q2134⟩⟩
theorem vl_X0_186 : ∀ t ∈ [0], ∃ (C : String) (T : u_T) (N : Nat), cls[t]? = some (C, T, N) ∧ t < 50 ∧ VLk RX0 186 C q_X1_count := List.forall_mem_singleton.mpr ⟨_, _, _, cls_X1, by decide, Or.inl ⟨q1375, q1377⟩⟩
theorem vl_X0_189 : ∀ t ∈ [6], ∃ (C : String) (T : u_T) (N : Nat), cls[t]? = some (C, T, N) ∧ t < 50 ∧ VLk RX0 189 C q_X7_count := List.forall_mem_singleton.mpr ⟨_, _, _, cls_X7, by decide, Or.inl ⟨q2136, q2138⟩⟩
