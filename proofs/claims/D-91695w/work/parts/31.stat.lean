/-! constants, methods, the cells that the constructors make (by program) -/
set_option maxRecDepth 100000
theorem k_m999999 : (-999999 : Int32) = Int32.ofInt (-999999) := rfl
theorem k_m8 : (-8 : Int32) = Int32.ofInt (-8) := rfl
theorem k_m2 : (-2 : Int32) = Int32.ofInt (-2) := rfl
theorem k_m1 : (-1 : Int32) = Int32.ofInt (-1) := rfl
theorem k_0 : (0 : Int32) = Int32.ofInt 0 := rfl
theorem k_1 : (1 : Int32) = Int32.ofInt 1 := rfl
theorem k_2 : (2 : Int32) = Int32.ofInt 2 := rfl
theorem k_3 : (3 : Int32) = Int32.ofInt 3 := rfl
theorem k_4 : (4 : Int32) = Int32.ofInt 4 := rfl
theorem k_5 : (5 : Int32) = Int32.ofInt 5 := rfl
theorem k_6 : (6 : Int32) = Int32.ofInt 6 := rfl
theorem k_7 : (7 : Int32) = Int32.ofInt 7 := rfl
theorem k_8 : (8 : Int32) = Int32.ofInt 8 := rfl
theorem k_9 : (9 : Int32) = Int32.ofInt 9 := rfl
theorem k_10 : (10 : Int32) = Int32.ofInt 10 := rfl
theorem k_11 : (11 : Int32) = Int32.ofInt 11 := rfl
theorem k_12 : (12 : Int32) = Int32.ofInt 12 := rfl
theorem k_15 : (15 : Int32) = Int32.ofInt 15 := rfl
theorem k_16 : (16 : Int32) = Int32.ofInt 16 := rfl
theorem k_20 : (20 : Int32) = Int32.ofInt 20 := rfl
theorem k_24 : (24 : Int32) = Int32.ofInt 24 := rfl
theorem k_31 : (31 : Int32) = Int32.ofInt 31 := rfl
theorem k_32 : (32 : Int32) = Int32.ofInt 32 := rfl
theorem k_40 : (40 : Int32) = Int32.ofInt 40 := rfl
theorem k_45 : (45 : Int32) = Int32.ofInt 45 := rfl
theorem k_46 : (46 : Int32) = Int32.ofInt 46 := rfl
theorem k_48 : (48 : Int32) = Int32.ofInt 48 := rfl
theorem k_57 : (57 : Int32) = Int32.ofInt 57 := rfl
theorem k_59 : (59 : Int32) = Int32.ofInt 59 := rfl
theorem k_60 : (60 : Int32) = Int32.ofInt 60 := rfl
theorem k_61 : (61 : Int32) = Int32.ofInt 61 := rfl
theorem k_63 : (63 : Int32) = Int32.ofInt 63 := rfl
theorem k_64 : (64 : Int32) = Int32.ofInt 64 := rfl
theorem k_65 : (65 : Int32) = Int32.ofInt 65 := rfl
theorem k_68 : (68 : Int32) = Int32.ofInt 68 := rfl
theorem k_92 : (92 : Int32) = Int32.ofInt 92 := rfl
theorem k_96 : (96 : Int32) = Int32.ofInt 96 := rfl
theorem k_97 : (97 : Int32) = Int32.ofInt 97 := rfl
theorem k_100 : (100 : Int32) = Int32.ofInt 100 := rfl
theorem k_120 : (120 : Int32) = Int32.ofInt 120 := rfl
theorem k_122 : (122 : Int32) = Int32.ofInt 122 := rfl
theorem k_124 : (124 : Int32) = Int32.ofInt 124 := rfl
theorem k_128 : (128 : Int32) = Int32.ofInt 128 := rfl
theorem k_132 : (132 : Int32) = Int32.ofInt 132 := rfl
theorem k_144 : (144 : Int32) = Int32.ofInt 144 := rfl
theorem k_148 : (148 : Int32) = Int32.ofInt 148 := rfl
theorem k_152 : (152 : Int32) = Int32.ofInt 152 := rfl
theorem k_156 : (156 : Int32) = Int32.ofInt 156 := rfl
theorem k_157 : (157 : Int32) = Int32.ofInt 157 := rfl
theorem k_158 : (158 : Int32) = Int32.ofInt 158 := rfl
theorem k_159 : (159 : Int32) = Int32.ofInt 159 := rfl
theorem k_179 : (179 : Int32) = Int32.ofInt 179 := rfl
theorem k_180 : (180 : Int32) = Int32.ofInt 180 := rfl
theorem k_181 : (181 : Int32) = Int32.ofInt 181 := rfl
theorem k_193 : (193 : Int32) = Int32.ofInt 193 := rfl
theorem k_200 : (200 : Int32) = Int32.ofInt 200 := rfl
theorem k_205 : (205 : Int32) = Int32.ofInt 205 := rfl
theorem k_217 : (217 : Int32) = Int32.ofInt 217 := rfl
theorem k_255 : (255 : Int32) = Int32.ofInt 255 := rfl
theorem k_256 : (256 : Int32) = Int32.ofInt 256 := rfl
theorem k_300 : (300 : Int32) = Int32.ofInt 300 := rfl
theorem k_600 : (600 : Int32) = Int32.ofInt 600 := rfl
theorem k_700 : (700 : Int32) = Int32.ofInt 700 := rfl
theorem k_720 : (720 : Int32) = Int32.ofInt 720 := rfl
theorem k_740 : (740 : Int32) = Int32.ofInt 740 := rfl
theorem k_800 : (800 : Int32) = Int32.ofInt 800 := rfl
theorem k_2160 : (2160 : Int32) = Int32.ofInt 2160 := rfl
theorem k_2400 : (2400 : Int32) = Int32.ofInt 2400 := rfl
theorem k_6400 : (6400 : Int32) = Int32.ofInt 6400 := rfl
theorem k_999999 : (999999 : Int32) = Int32.ofInt 999999 := rfl
theorem k_1000000 : (1000000 : Int32) = Int32.ofInt 1000000 := rfl
theorem kl_0 : (0 : Int64) = Int64.ofInt 0 := rfl
theorem kl_1 : (1 : Int64) = Int64.ofInt 1 := rfl
theorem kl_97 : (97 : Int64) = Int64.ofInt 97 := rfl
theorem kl_98 : (98 : Int64) = Int64.ofInt 98 := rfl
theorem kl_99 : (99 : Int64) = Int64.ofInt 99 := rfl
theorem kl_101 : (101 : Int64) = Int64.ofInt 101 := rfl
theorem kl_105 : (105 : Int64) = Int64.ofInt 105 := rfl
theorem kl_109 : (109 : Int64) = Int64.ofInt 109 := rfl
theorem kl_111 : (111 : Int64) = Int64.ofInt 111 := rfl
theorem kl_112 : (112 : Int64) = Int64.ofInt 112 := rfl
theorem kl_113 : (113 : Int64) = Int64.ofInt 113 := rfl
theorem kl_115 : (115 : Int64) = Int64.ofInt 115 := rfl
theorem kl_116 : (116 : Int64) = Int64.ofInt 116 := rfl
theorem kl_117 : (117 : Int64) = Int64.ofInt 117 := rfl
theorem kl_120 : (120 : Int64) = Int64.ofInt 120 := rfl
theorem kl_122 : (122 : Int64) = Int64.ofInt 122 := rfl
theorem kl_27489 : (27489 : Int64) = Int64.ofInt 27489 := rfl
theorem kl_27490 : (27490 : Int64) = Int64.ofInt 27490 := rfl
theorem kl_29283 : (29283 : Int64) = Int64.ofInt 29283 := rfl
theorem kl_29294 : (29294 : Int64) = Int64.ofInt 29294 := rfl
theorem kl_29300 : (29300 : Int64) = Int64.ofInt 29300 := rfl
theorem kl_7566701 : (7566701 : Int64) = Int64.ofInt 7566701 := rfl
theorem kl_1751215220 : (1751215220 : Int64) = Int64.ofInt 1751215220 := rfl
theorem kl_1870030194 : (1870030194 : Int64) = Int64.ofInt 1870030194 := rfl
theorem kl_1886156147 : (1886156147 : Int64) = Int64.ofInt 1886156147 := rfl
theorem kl_422826041707 : (422826041707 : Int64) = Int64.ofInt 422826041707 := rfl
theorem kl_427020345714 : (427020345714 : Int64) = Int64.ofInt 427020345714 := rfl
theorem kl_427071729268 : (427071729268 : Int64) = Int64.ofInt 427071729268 := rfl
theorem kl_439854918756 : (439854918756 : Int64) = Int64.ofInt 439854918756 := rfl
theorem kl_469920281971 : (469920281971 : Int64) = Int64.ofInt 469920281971 := rfl
theorem mt_J0_copyOf : mt[0]? = some (t_J0_copyOf, 3) := rfl
theorem lin_J0_copyOf : LinT t_J0_copyOf := sd_J0_copyOf.lin
theorem mt_J0_copyOfRange : mt[1]? = some (t_J0_copyOfRange, 3) := rfl
theorem lin_J0_copyOfRange : LinT t_J0_copyOfRange := sd_J0_copyOfRange.lin
theorem mt_J0_copyOfRangeByte : mt[2]? = some (t_J0_copyOfRangeByte, 5) := rfl
theorem lin_J0_copyOfRangeByte : LinT t_J0_copyOfRangeByte := sd_J0_copyOfRangeByte.lin
theorem mt_J0_checkLength : mt[3]? = some (t_J0_checkLength, 2) := rfl
theorem lin_J0_checkLength : LinT t_J0_checkLength := sd_J0_checkLength.lin
theorem mt_J0_fill : mt[4]? = some (t_J0_fill, 4) := rfl
theorem lin_J0_fill : LinT t_J0_fill := sd_J0_fill.lin
theorem mt_J0_fill_2 : mt[5]? = some (t_J0_fill_2, 4) := rfl
theorem lin_J0_fill_2 : LinT t_J0_fill_2 := sd_J0_fill_2.lin
theorem mt_J11_canEncode : mt[6]? = some (t_J11_canEncode, 1) := rfl
theorem lin_J11_canEncode : LinT t_J11_canEncode := sd_J11_canEncode.lin
theorem mt_J11_equals : mt[7]? = some (t_J11_equals, 3) := rfl
theorem lin_J11_equals : LinT t_J11_equals := sd_J11_equals.lin
theorem mt_J11_indexOf : mt[8]? = some (t_J11_indexOf, 2) := rfl
theorem lin_J11_indexOf : LinT t_J11_indexOf := sd_J11_indexOf.lin
theorem mt_J11_indexOf_2 : mt[9]? = some (t_J11_indexOf_2, 11) := rfl
theorem lin_J11_indexOf_2 : LinT t_J11_indexOf_2 := sd_J11_indexOf_2.lin
theorem mt_J6_init : mt[10]? = some (t_J6_init, 2) := rfl
theorem lin_J6_init : LinT t_J6_init := sd_J6_init.lin
theorem mt_J6_append : mt[11]? = some (t_J6_append, 2) := rfl
theorem lin_J6_append : LinT t_J6_append := sd_J6_append.lin
theorem mt_J6_ensureCapacityInternal : mt[12]? = some (t_J6_ensureCapacityInternal, 3) := rfl
theorem lin_J6_ensureCapacityInternal : LinT t_J6_ensureCapacityInternal := sd_J6_ensureCapacityInternal.lin
theorem mt_J6_isLatin1 : mt[13]? = some (t_J6_isLatin1, 1) := rfl
theorem lin_J6_isLatin1 : LinT t_J6_isLatin1 := sd_J6_isLatin1.lin
theorem mt_J6_getValue : mt[14]? = some (t_J6_getValue, 1) := rfl
theorem lin_J6_getValue : LinT t_J6_getValue := sd_J6_getValue.lin
theorem mt_J6_length : mt[15]? = some (t_J6_length, 1) := rfl
theorem lin_J6_length : LinT t_J6_length := sd_J6_length.lin
theorem mt_J6_append_2 : mt[16]? = some (t_J6_append_2, 3) := rfl
theorem lin_J6_append_2 : LinT t_J6_append_2 := sd_J6_append_2.lin
theorem mt_J6_putStringAt : mt[17]? = some (t_J6_putStringAt, 3) := rfl
theorem lin_J6_putStringAt : LinT t_J6_putStringAt := sd_J6_putStringAt.lin
theorem mt_J6_inflateIfNeededFor : mt[18]? = some (t_J6_inflateIfNeededFor, 2) := rfl
theorem lin_J6_inflateIfNeededFor : LinT t_J6_inflateIfNeededFor := sd_J6_inflateIfNeededFor.lin
theorem mt_J7_init : mt[19]? = some (t_J7_init, 1) := rfl
theorem lin_J7_init : LinT t_J7_init := sd_J7_init.lin
theorem mt_J7_append : mt[20]? = some (t_J7_append, 2) := rfl
theorem lin_J7_append : LinT t_J7_append := sd_J7_append.lin
theorem mt_J7_toString : mt[21]? = some (t_J7_toString, 1) := rfl
theorem lin_J7_toString : LinT t_J7_toString := sd_J7_toString.lin
theorem mt_J7_length : mt[22]? = some (t_J7_length, 1) := rfl
theorem lin_J7_length : LinT t_J7_length := sd_J7_length.lin
theorem mt_J7_append_2 : mt[23]? = some (t_J7_append_2, 2) := rfl
theorem lin_J7_append_2 : LinT t_J7_append_2 := sd_J7_append_2.lin
theorem mt_J8_init : mt[24]? = some (t_J8_init, 2) := rfl
theorem lin_J8_init : LinT t_J8_init := sd_J8_init.lin
theorem mt_J8_init_2 : mt[25]? = some (t_J8_init_2, 5) := rfl
theorem lin_J8_init_2 : LinT t_J8_init_2 := sd_J8_init_2.lin
theorem mt_J8_equals : mt[26]? = some (t_J8_equals, 3) := rfl
theorem lin_J8_equals : LinT t_J8_equals := sd_J8_equals.lin
theorem mt_J8_length : mt[27]? = some (t_J8_length, 1) := rfl
theorem lin_J8_length : LinT t_J8_length := sd_J8_length.lin
theorem mt_J8_coder : mt[28]? = some (t_J8_coder, 1) := rfl
theorem lin_J8_coder : LinT t_J8_coder := sd_J8_coder.lin
theorem mt_J8_getBytes : mt[29]? = some (t_J8_getBytes, 4) := rfl
theorem lin_J8_getBytes : LinT t_J8_getBytes := sd_J8_getBytes.lin
theorem mt_J8_indexOf : mt[30]? = some (t_J8_indexOf, 3) := rfl
theorem lin_J8_indexOf : LinT t_J8_indexOf := sd_J8_indexOf.lin
theorem mt_J8_isLatin1 : mt[31]? = some (t_J8_isLatin1, 1) := rfl
theorem lin_J8_isLatin1 : LinT t_J8_isLatin1 := sd_J8_isLatin1.lin
theorem mt_X0_column : mt[32]? = some (t_X0_column, 6) := rfl
theorem lin_X0_column : LinT t_X0_column := sd_X0_column.lin
theorem mt_X0_bar : mt[33]? = some (t_X0_bar, 5) := rfl
theorem lin_X0_bar : LinT t_X0_bar := sd_X0_bar.lin
theorem mt_X0_wheel : mt[34]? = some (t_X0_wheel, 4) := rfl
theorem lin_X0_wheel : LinT t_X0_wheel := sd_X0_wheel.lin
theorem mt_X0_wantedAt : mt[35]? = some (t_X0_wantedAt, 5) := rfl
theorem lin_X0_wantedAt : LinT t_X0_wantedAt := sd_X0_wantedAt.lin
theorem mt_X1_init : mt[36]? = some (t_X1_init, 2) := rfl
theorem lin_X1_init : LinT t_X1_init := sd_X1_init.lin
theorem mt_X1_feed : mt[37]? = some (t_X1_feed, 6) := rfl
theorem lin_X1_feed : LinT t_X1_feed := sd_X1_feed.lin
theorem mt_X1_come : mt[38]? = some (t_X1_come, 3) := rfl
theorem lin_X1_come : LinT t_X1_come := sd_X1_come.lin
theorem mt_X1_end : mt[39]? = some (t_X1_end, 2) := rfl
theorem lin_X1_end : LinT t_X1_end := sd_X1_end.lin
theorem mt_X1_card : mt[40]? = some (t_X1_card, 4) := rfl
theorem lin_X1_card : LinT t_X1_card := sd_X1_card.lin
theorem mt_X1_take : mt[41]? = some (t_X1_take, 2) := rfl
theorem lin_X1_take : LinT t_X1_take := sd_X1_take.lin
theorem mt_X1_isBox : mt[42]? = some (t_X1_isBox, 1) := rfl
theorem lin_X1_isBox : LinT t_X1_isBox := sd_X1_isBox.lin
theorem mt_X1_isIn : mt[43]? = some (t_X1_isIn, 3) := rfl
theorem lin_X1_isIn : LinT t_X1_isIn := sd_X1_isIn.lin
theorem mt_X1_isDigit : mt[44]? = some (t_X1_isDigit, 1) := rfl
theorem lin_X1_isDigit : LinT t_X1_isDigit := sd_X1_isDigit.lin
theorem mt_X1_cards : mt[45]? = some (t_X1_cards, 2) := rfl
theorem lin_X1_cards : LinT t_X1_cards := sd_X1_cards.lin
theorem mt_X1_empty : mt[46]? = some (t_X1_empty, 3) := rfl
theorem lin_X1_empty : LinT t_X1_empty := sd_X1_empty.lin
theorem mt_X1_board : mt[47]? = some (t_X1_board, 3) := rfl
theorem lin_X1_board : LinT t_X1_board := sd_X1_board.lin
theorem mt_X1_mostOf : mt[48]? = some (t_X1_mostOf, 1) := rfl
theorem lin_X1_mostOf : LinT t_X1_mostOf := sd_X1_mostOf.lin
theorem mt_X1_fault : mt[49]? = some (t_X1_fault, 1) := rfl
theorem lin_X1_fault : LinT t_X1_fault := sd_X1_fault.lin
theorem mt_X1_run : mt[50]? = some (t_X1_run, 5) := rfl
theorem lin_X1_run : LinT t_X1_run := sd_X1_run.lin
theorem mt_X1_ran : mt[51]? = some (t_X1_ran, 2) := rfl
theorem lin_X1_ran : LinT t_X1_ran := sd_X1_ran.lin
theorem mt_X1_pass : mt[52]? = some (t_X1_pass, 3) := rfl
theorem lin_X1_pass : LinT t_X1_pass := sd_X1_pass.lin
theorem mt_X1_sort : mt[53]? = some (t_X1_sort, 5) := rfl
theorem lin_X1_sort : LinT t_X1_sort := sd_X1_sort.lin
theorem mt_X1_key : mt[54]? = some (t_X1_key, 2) := rfl
theorem lin_X1_key : LinT t_X1_key := sd_X1_key.lin
theorem mt_X1_idle : mt[55]? = some (t_X1_idle, 3) := rfl
theorem lin_X1_idle : LinT t_X1_idle := sd_X1_idle.lin
theorem mt_X1_runWithout : mt[56]? = some (t_X1_runWithout, 4) := rfl
theorem lin_X1_runWithout : LinT t_X1_runWithout := sd_X1_runWithout.lin
theorem mt_X1_find : mt[57]? = some (t_X1_find, 2) := rfl
theorem lin_X1_find : LinT t_X1_find := sd_X1_find.lin
theorem mt_X1_missing : mt[58]? = some (t_X1_missing, 4) := rfl
theorem lin_X1_missing : LinT t_X1_missing := sd_X1_missing.lin
theorem mt_X1_areLines : mt[59]? = some (t_X1_areLines, 3) := rfl
theorem lin_X1_areLines : LinT t_X1_areLines := sd_X1_areLines.lin
theorem mt_X1_told : mt[60]? = some (t_X1_told, 3) := rfl
theorem lin_X1_told : LinT t_X1_told := sd_X1_told.lin
theorem mt_X1_wire : mt[61]? = some (t_X1_wire, 2) := rfl
theorem lin_X1_wire : LinT t_X1_wire := sd_X1_wire.lin
theorem mt_X1_tests : mt[62]? = some (t_X1_tests, 13) := rfl
theorem lin_X1_tests : LinT t_X1_tests := sd_X1_tests.lin
theorem mt_X1_bits : mt[63]? = some (t_X1_bits, 5) := rfl
theorem lin_X1_bits : LinT t_X1_bits := sd_X1_bits.lin
theorem mt_X1_testSet : mt[64]? = some (t_X1_testSet, 1) := rfl
theorem lin_X1_testSet : LinT t_X1_testSet := sd_X1_testSet.lin
theorem mt_X1_shown : mt[65]? = some (t_X1_shown, 1) := rfl
theorem lin_X1_shown : LinT t_X1_shown := sd_X1_shown.lin
theorem mt_X1_job : mt[66]? = some (t_X1_job, 3) := rfl
theorem lin_X1_job : LinT t_X1_job := sd_X1_job.lin
theorem mt_X1_part : mt[67]? = some (t_X1_part, 4) := rfl
theorem lin_X1_part : LinT t_X1_part := sd_X1_part.lin
theorem mt_X1_firstRun : mt[68]? = some (t_X1_firstRun, 5) := rfl
theorem lin_X1_firstRun : LinT t_X1_firstRun := sd_X1_firstRun.lin
theorem mt_X1_runs : mt[69]? = some (t_X1_runs, 1) := rfl
theorem lin_X1_runs : LinT t_X1_runs := sd_X1_runs.lin
theorem mt_X1_wants : mt[70]? = some (t_X1_wants, 2) := rfl
theorem lin_X1_wants : LinT t_X1_wants := sd_X1_wants.lin
theorem mt_X1_isRun : mt[71]? = some (t_X1_isRun, 2) := rfl
theorem lin_X1_isRun : LinT t_X1_isRun := sd_X1_isRun.lin
theorem mt_X1_make : mt[72]? = some (t_X1_make, 2) := rfl
theorem lin_X1_make : LinT t_X1_make := sd_X1_make.lin
theorem mt_X1_wanted : mt[73]? = some (t_X1_wanted, 3) := rfl
theorem lin_X1_wanted : LinT t_X1_wanted := sd_X1_wanted.lin
theorem mt_X1_want : mt[74]? = some (t_X1_want, 8) := rfl
theorem lin_X1_want : LinT t_X1_want := sd_X1_want.lin
theorem mt_X1_total : mt[75]? = some (t_X1_total, 11) := rfl
theorem lin_X1_total : LinT t_X1_total := sd_X1_total.lin
theorem mt_X1_same : mt[76]? = some (t_X1_same, 3) := rfl
theorem lin_X1_same : LinT t_X1_same := sd_X1_same.lin
theorem mt_X1_needed : mt[77]? = some (t_X1_needed, 5) := rfl
theorem lin_X1_needed : LinT t_X1_needed := sd_X1_needed.lin
theorem mt_X1_isOrdered : mt[78]? = some (t_X1_isOrdered, 7) := rfl
theorem lin_X1_isOrdered : LinT t_X1_isOrdered := sd_X1_isOrdered.lin
theorem mt_X1_neededSet : mt[79]? = some (t_X1_neededSet, 1) := rfl
theorem lin_X1_neededSet : LinT t_X1_neededSet := sd_X1_neededSet.lin
theorem mt_X1_unseen : mt[80]? = some (t_X1_unseen, 5) := rfl
theorem lin_X1_unseen : LinT t_X1_unseen := sd_X1_unseen.lin
theorem mt_X1_unseenAt : mt[81]? = some (t_X1_unseenAt, 2) := rfl
theorem lin_X1_unseenAt : LinT t_X1_unseenAt := sd_X1_unseenAt.lin
theorem mt_X1_moves : mt[82]? = some (t_X1_moves, 11) := rfl
theorem lin_X1_moves : LinT t_X1_moves := sd_X1_moves.lin
theorem mt_X1_sortOf : mt[83]? = some (t_X1_sortOf, 6) := rfl
theorem lin_X1_sortOf : LinT t_X1_sortOf := sd_X1_sortOf.lin
theorem mt_X1_manyOf : mt[84]? = some (t_X1_manyOf, 1) := rfl
theorem lin_X1_manyOf : LinT t_X1_manyOf := sd_X1_manyOf.lin
theorem mt_X1_wiresOf : mt[85]? = some (t_X1_wiresOf, 4) := rfl
theorem lin_X1_wiresOf : LinT t_X1_wiresOf := sd_X1_wiresOf.lin
theorem mt_X1_move : mt[86]? = some (t_X1_move, 3) := rfl
theorem lin_X1_move : LinT t_X1_move := sd_X1_move.lin
theorem mt_X1_keep : mt[87]? = some (t_X1_keep, 2) := rfl
theorem lin_X1_keep : LinT t_X1_keep := sd_X1_keep.lin
theorem mt_X1_use : mt[88]? = some (t_X1_use, 2) := rfl
theorem lin_X1_use : LinT t_X1_use := sd_X1_use.lin
theorem mt_X1_isKept : mt[89]? = some (t_X1_isKept, 2) := rfl
theorem lin_X1_isKept : LinT t_X1_isKept := sd_X1_isKept.lin
theorem mt_X1_apart : mt[90]? = some (t_X1_apart, 3) := rfl
theorem lin_X1_apart : LinT t_X1_apart := sd_X1_apart.lin
theorem mt_X1_friday : mt[91]? = some (t_X1_friday, 6) := rfl
theorem lin_X1_friday : LinT t_X1_friday := sd_X1_friday.lin
theorem mt_X1_plan : mt[92]? = some (t_X1_plan, 7) := rfl
theorem lin_X1_plan : LinT t_X1_plan := sd_X1_plan.lin
theorem mt_X1_two : mt[93]? = some (t_X1_two, 2) := rfl
theorem lin_X1_two : LinT t_X1_two := sd_X1_two.lin
theorem mt_X1_fridayAt : mt[94]? = some (t_X1_fridayAt, 2) := rfl
theorem lin_X1_fridayAt : LinT t_X1_fridayAt := sd_X1_fridayAt.lin
theorem mt_X1_count : mt[95]? = some (t_X1_count, 7) := rfl
theorem lin_X1_count : LinT t_X1_count := sd_X1_count.lin
theorem mt_X1_column : mt[96]? = some (t_X1_column, 4) := rfl
theorem lin_X1_column : LinT t_X1_column := sd_X1_column.lin
theorem mt_X1_need : mt[97]? = some (t_X1_need, 1) := rfl
theorem lin_X1_need : LinT t_X1_need := sd_X1_need.lin
theorem mt_X1_bar : mt[98]? = some (t_X1_bar, 3) := rfl
theorem lin_X1_bar : LinT t_X1_bar := sd_X1_bar.lin
theorem mt_X1_wheel : mt[99]? = some (t_X1_wheel, 2) := rfl
theorem lin_X1_wheel : LinT t_X1_wheel := sd_X1_wheel.lin
theorem mt_X1_wantedAt : mt[100]? = some (t_X1_wantedAt, 3) := rfl
theorem lin_X1_wantedAt : LinT t_X1_wantedAt := sd_X1_wantedAt.lin
theorem mt_X10_init : mt[101]? = some (t_X10_init, 3) := rfl
theorem lin_X10_init : LinT t_X10_init := sd_X10_init.lin
theorem mt_X11_init : mt[102]? = some (t_X11_init, 3) := rfl
theorem lin_X11_init : LinT t_X11_init := sd_X11_init.lin
theorem mt_X11_read : mt[103]? = some (t_X11_read, 1) := rfl
theorem lin_X11_read : LinT t_X11_read := sd_X11_read.lin
theorem mt_X11_field : mt[104]? = some (t_X11_field, 4) := rfl
theorem lin_X11_field : LinT t_X11_field := sd_X11_field.lin
theorem mt_X11_isName : mt[105]? = some (t_X11_isName, 1) := rfl
theorem lin_X11_isName : LinT t_X11_isName := sd_X11_isName.lin
theorem mt_X11_breaks : mt[106]? = some (t_X11_breaks, 2) := rfl
theorem lin_X11_breaks : LinT t_X11_breaks := sd_X11_breaks.lin
theorem mt_X11_want : mt[107]? = some (t_X11_want, 3) := rfl
theorem lin_X11_want : LinT t_X11_want := sd_X11_want.lin
theorem mt_X12_init : mt[108]? = some (t_X12_init, 2) := rfl
theorem lin_X12_init : LinT t_X12_init := sd_X12_init.lin
theorem mt_X12_make : mt[109]? = some (t_X12_make, 5) := rfl
theorem lin_X12_make : LinT t_X12_make := sd_X12_make.lin
theorem mt_X12_wire : mt[110]? = some (t_X12_wire, 3) := rfl
theorem lin_X12_wire : LinT t_X12_wire := sd_X12_wire.lin
theorem mt_X12_takesIn : mt[111]? = some (t_X12_takesIn, 5) := rfl
theorem lin_X12_takesIn : LinT t_X12_takesIn := sd_X12_takesIn.lin
theorem mt_X12_point : mt[112]? = some (t_X12_point, 3) := rfl
theorem lin_X12_point : LinT t_X12_point := sd_X12_point.lin
theorem mt_X12_prints : mt[113]? = some (t_X12_prints, 6) := rfl
theorem lin_X12_prints : LinT t_X12_prints := sd_X12_prints.lin
theorem mt_X2_init : mt[114]? = some (t_X2_init, 1) := rfl
theorem lin_X2_init : LinT t_X2_init := sd_X2_init.lin
theorem mt_X2_add : mt[115]? = some (t_X2_add, 3) := rfl
theorem lin_X2_add : LinT t_X2_add := sd_X2_add.lin
theorem mt_X2_like : mt[116]? = some (t_X2_like, 6) := rfl
theorem lin_X2_like : LinT t_X2_like := sd_X2_like.lin
theorem mt_X2_apart : mt[117]? = some (t_X2_apart, 2) := rfl
theorem lin_X2_apart : LinT t_X2_apart := sd_X2_apart.lin
theorem mt_X2_beyond : mt[118]? = some (t_X2_beyond, 7) := rfl
theorem lin_X2_beyond : LinT t_X2_beyond := sd_X2_beyond.lin
theorem mt_X2_isLike : mt[119]? = some (t_X2_isLike, 4) := rfl
theorem lin_X2_isLike : LinT t_X2_isLike := sd_X2_isLike.lin
theorem mt_X3_init : mt[120]? = some (t_X3_init, 1) := rfl
theorem lin_X3_init : LinT t_X3_init := sd_X3_init.lin
theorem mt_X3_run : mt[121]? = some (t_X3_run, 12) := rfl
theorem lin_X3_run : LinT t_X3_run := sd_X3_run.lin
theorem mt_X3_giveCard : mt[122]? = some (t_X3_giveCard, 4) := rfl
theorem lin_X3_giveCard : LinT t_X3_giveCard := sd_X3_giveCard.lin
theorem mt_X3_settle : mt[123]? = some (t_X3_settle, 5) := rfl
theorem lin_X3_settle : LinT t_X3_settle := sd_X3_settle.lin
theorem mt_X3_joinNets : mt[124]? = some (t_X3_joinNets, 2) := rfl
theorem lin_X3_joinNets : LinT t_X3_joinNets := sd_X3_joinNets.lin
theorem mt_X3_join : mt[125]? = some (t_X3_join, 3) := rfl
theorem lin_X3_join : LinT t_X3_join := sd_X3_join.lin
theorem mt_X3_root : mt[126]? = some (t_X3_root, 3) := rfl
theorem lin_X3_root : LinT t_X3_root := sd_X3_root.lin
theorem mt_X3_seek : mt[127]? = some (t_X3_seek, 5) := rfl
theorem lin_X3_seek : LinT t_X3_seek := sd_X3_seek.lin
theorem mt_X3_takes : mt[128]? = some (t_X3_takes, 2) := rfl
theorem lin_X3_takes : LinT t_X3_takes := sd_X3_takes.lin
theorem mt_X3_take : mt[129]? = some (t_X3_take, 3) := rfl
theorem lin_X3_take : LinT t_X3_take := sd_X3_take.lin
theorem mt_X3_breaks : mt[130]? = some (t_X3_breaks, 3) := rfl
theorem lin_X3_breaks : LinT t_X3_breaks := sd_X3_breaks.lin
theorem mt_X3_act : mt[131]? = some (t_X3_act, 1) := rfl
theorem lin_X3_act : LinT t_X3_act := sd_X3_act.lin
theorem mt_X3_print : mt[132]? = some (t_X3_print, 3) := rfl
theorem lin_X3_print : LinT t_X3_print := sd_X3_print.lin
theorem mt_X3_count : mt[133]? = some (t_X3_count, 4) := rfl
theorem lin_X3_count : LinT t_X3_count := sd_X3_count.lin
theorem mt_X3_punch : mt[134]? = some (t_X3_punch, 2) := rfl
theorem lin_X3_punch : LinT t_X3_punch := sd_X3_punch.lin
theorem mt_X3_giveTotal : mt[135]? = some (t_X3_giveTotal, 5) := rfl
theorem lin_X3_giveTotal : LinT t_X3_giveTotal := sd_X3_giveTotal.lin
theorem mt_X4_init : mt[136]? = some (t_X4_init, 1) := rfl
theorem lin_X4_init : LinT t_X4_init := sd_X4_init.lin
theorem mt_X4_begin : mt[137]? = some (t_X4_begin, 2) := rfl
theorem lin_X4_begin : LinT t_X4_begin := sd_X4_begin.lin
theorem mt_X4_isLike : mt[138]? = some (t_X4_isLike, 4) := rfl
theorem lin_X4_isLike : LinT t_X4_isLike := sd_X4_isLike.lin
theorem mt_X4_printsLike : mt[139]? = some (t_X4_printsLike, 4) := rfl
theorem lin_X4_printsLike : LinT t_X4_printsLike := sd_X4_printsLike.lin
theorem mt_X4_isLike_2 : mt[140]? = some (t_X4_isLike_2, 4) := rfl
theorem lin_X4_isLike_2 : LinT t_X4_isLike_2 := sd_X4_isLike_2.lin
theorem mt_X5_init : mt[141]? = some (t_X5_init, 1) := rfl
theorem lin_X5_init : LinT t_X5_init := sd_X5_init.lin
theorem mt_X5_find : mt[142]? = some (t_X5_find, 3) := rfl
theorem lin_X5_find : LinT t_X5_find := sd_X5_find.lin
theorem mt_X5_adds : mt[143]? = some (t_X5_adds, 5) := rfl
theorem lin_X5_adds : LinT t_X5_adds := sd_X5_adds.lin
theorem mt_X5_orderBehind : mt[144]? = some (t_X5_orderBehind, 5) := rfl
theorem lin_X5_orderBehind : LinT t_X5_orderBehind := sd_X5_orderBehind.lin
theorem mt_X6_init : mt[145]? = some (t_X6_init, 1) := rfl
theorem lin_X6_init : LinT t_X6_init := sd_X6_init.lin
theorem mt_X7_init : mt[146]? = some (t_X7_init, 1) := rfl
theorem lin_X7_init : LinT t_X7_init := sd_X7_init.lin
theorem mt_X7_thrown : mt[147]? = some (t_X7_thrown, 1) := rfl
theorem lin_X7_thrown : LinT t_X7_thrown := sd_X7_thrown.lin
theorem mt_X7_feed : mt[148]? = some (t_X7_feed, 6) := rfl
theorem lin_X7_feed : LinT t_X7_feed := sd_X7_feed.lin
theorem mt_X7_four : mt[149]? = some (t_X7_four, 3) := rfl
theorem lin_X7_four : LinT t_X7_four := sd_X7_four.lin
theorem mt_X7_end : mt[150]? = some (t_X7_end, 2) := rfl
theorem lin_X7_end : LinT t_X7_end := sd_X7_end.lin
theorem mt_X7_card : mt[151]? = some (t_X7_card, 3) := rfl
theorem lin_X7_card : LinT t_X7_card := sd_X7_card.lin
theorem mt_X7_taken : mt[152]? = some (t_X7_taken, 1) := rfl
theorem lin_X7_taken : LinT t_X7_taken := sd_X7_taken.lin
theorem mt_X7_isBox : mt[153]? = some (t_X7_isBox, 1) := rfl
theorem lin_X7_isBox : LinT t_X7_isBox := sd_X7_isBox.lin
theorem mt_X7_isIn : mt[154]? = some (t_X7_isIn, 3) := rfl
theorem lin_X7_isIn : LinT t_X7_isIn := sd_X7_isIn.lin
theorem mt_X7_octet : mt[155]? = some (t_X7_octet, 2) := rfl
theorem lin_X7_octet : LinT t_X7_octet := sd_X7_octet.lin
theorem mt_X7_cards : mt[156]? = some (t_X7_cards, 2) := rfl
theorem lin_X7_cards : LinT t_X7_cards := sd_X7_cards.lin
theorem mt_X7_column : mt[157]? = some (t_X7_column, 4) := rfl
theorem lin_X7_column : LinT t_X7_column := sd_X7_column.lin
theorem mt_X7_throwsIf : mt[158]? = some (t_X7_throwsIf, 2) := rfl
theorem lin_X7_throwsIf : LinT t_X7_throwsIf := sd_X7_throwsIf.lin
theorem mt_X7_empty : mt[159]? = some (t_X7_empty, 3) := rfl
theorem lin_X7_empty : LinT t_X7_empty := sd_X7_empty.lin
theorem mt_X7_fault : mt[160]? = some (t_X7_fault, 1) := rfl
theorem lin_X7_fault : LinT t_X7_fault := sd_X7_fault.lin
theorem mt_X7_board : mt[161]? = some (t_X7_board, 2) := rfl
theorem lin_X7_board : LinT t_X7_board := sd_X7_board.lin
theorem mt_X7_next : mt[162]? = some (t_X7_next, 3) := rfl
theorem lin_X7_next : LinT t_X7_next := sd_X7_next.lin
theorem mt_X7_peek : mt[163]? = some (t_X7_peek, 1) := rfl
theorem lin_X7_peek : LinT t_X7_peek := sd_X7_peek.lin
theorem mt_X7_isSmall : mt[164]? = some (t_X7_isSmall, 1) := rfl
theorem lin_X7_isSmall : LinT t_X7_isSmall := sd_X7_isSmall.lin
theorem mt_X7_isDigit : mt[165]? = some (t_X7_isDigit, 1) := rfl
theorem lin_X7_isDigit : LinT t_X7_isDigit := sd_X7_isDigit.lin
theorem mt_X7_read : mt[166]? = some (t_X7_read, 4) := rfl
theorem lin_X7_read : LinT t_X7_read := sd_X7_read.lin
theorem mt_X7_isHub : mt[167]? = some (t_X7_isHub, 3) := rfl
theorem lin_X7_isHub : LinT t_X7_isHub := sd_X7_isHub.lin
theorem mt_X7_bad : mt[168]? = some (t_X7_bad, 3) := rfl
theorem lin_X7_bad : LinT t_X7_bad := sd_X7_bad.lin
theorem mt_X7_hub : mt[169]? = some (t_X7_hub, 7) := rfl
theorem lin_X7_hub : LinT t_X7_hub := sd_X7_hub.lin
theorem mt_X7_takes : mt[170]? = some (t_X7_takes, 3) := rfl
theorem lin_X7_takes : LinT t_X7_takes := sd_X7_takes.lin
theorem mt_X7_sign : mt[171]? = some (t_X7_sign, 2) := rfl
theorem lin_X7_sign : LinT t_X7_sign := sd_X7_sign.lin
theorem mt_X7_most : mt[172]? = some (t_X7_most, 1) := rfl
theorem lin_X7_most : LinT t_X7_most := sd_X7_most.lin
theorem mt_X7_takesOnly : mt[173]? = some (t_X7_takesOnly, 1) := rfl
theorem lin_X7_takesOnly : LinT t_X7_takesOnly := sd_X7_takesOnly.lin
theorem mt_X7_copyBoard : mt[174]? = some (t_X7_copyBoard, 4) := rfl
theorem lin_X7_copyBoard : LinT t_X7_copyBoard := sd_X7_copyBoard.lin
theorem mt_X7_run : mt[175]? = some (t_X7_run, 4) := rfl
theorem lin_X7_run : LinT t_X7_run := sd_X7_run.lin
theorem mt_X7_load : mt[176]? = some (t_X7_load, 7) := rfl
theorem lin_X7_load : LinT t_X7_load := sd_X7_load.lin
theorem mt_X7_play : mt[177]? = some (t_X7_play, 6) := rfl
theorem lin_X7_play : LinT t_X7_play := sd_X7_play.lin
theorem mt_X7_nets : mt[178]? = some (t_X7_nets, 5) := rfl
theorem lin_X7_nets : LinT t_X7_nets := sd_X7_nets.lin
theorem mt_X7_joins : mt[179]? = some (t_X7_joins, 4) := rfl
theorem lin_X7_joins : LinT t_X7_joins := sd_X7_joins.lin
theorem mt_X7_digit : mt[180]? = some (t_X7_digit, 4) := rfl
theorem lin_X7_digit : LinT t_X7_digit := sd_X7_digit.lin
theorem mt_X7_cycle : mt[181]? = some (t_X7_cycle, 4) := rfl
theorem lin_X7_cycle : LinT t_X7_cycle := sd_X7_cycle.lin
theorem mt_X7_gather : mt[182]? = some (t_X7_gather, 5) := rfl
theorem lin_X7_gather : LinT t_X7_gather := sd_X7_gather.lin
theorem mt_X7_have : mt[183]? = some (t_X7_have, 2) := rfl
theorem lin_X7_have : LinT t_X7_have := sd_X7_have.lin
theorem mt_X7_take : mt[184]? = some (t_X7_take, 3) := rfl
theorem lin_X7_take : LinT t_X7_take := sd_X7_take.lin
theorem mt_X7_jam : mt[185]? = some (t_X7_jam, 3) := rfl
theorem lin_X7_jam : LinT t_X7_jam := sd_X7_jam.lin
theorem mt_X7_prints : mt[186]? = some (t_X7_prints, 2) := rfl
theorem lin_X7_prints : LinT t_X7_prints := sd_X7_prints.lin
theorem mt_X7_turn : mt[187]? = some (t_X7_turn, 5) := rfl
theorem lin_X7_turn : LinT t_X7_turn := sd_X7_turn.lin
theorem mt_X7_total : mt[188]? = some (t_X7_total, 5) := rfl
theorem lin_X7_total : LinT t_X7_total := sd_X7_total.lin
theorem mt_X7_keepRun : mt[189]? = some (t_X7_keepRun, 3) := rfl
theorem lin_X7_keepRun : LinT t_X7_keepRun := sd_X7_keepRun.lin
theorem mt_X7_ran : mt[190]? = some (t_X7_ran, 2) := rfl
theorem lin_X7_ran : LinT t_X7_ran := sd_X7_ran.lin
theorem mt_X7_bar : mt[191]? = some (t_X7_bar, 3) := rfl
theorem lin_X7_bar : LinT t_X7_bar := sd_X7_bar.lin
theorem mt_X7_wheel : mt[192]? = some (t_X7_wheel, 2) := rfl
theorem lin_X7_wheel : LinT t_X7_wheel := sd_X7_wheel.lin
theorem mt_X7_pass : mt[193]? = some (t_X7_pass, 5) := rfl
theorem lin_X7_pass : LinT t_X7_pass := sd_X7_pass.lin
theorem mt_X7_sort : mt[194]? = some (t_X7_sort, 8) := rfl
theorem lin_X7_sort : LinT t_X7_sort := sd_X7_sort.lin
theorem mt_X7_needed : mt[195]? = some (t_X7_needed, 5) := rfl
theorem lin_X7_needed : LinT t_X7_needed := sd_X7_needed.lin
theorem mt_X7_bits : mt[196]? = some (t_X7_bits, 5) := rfl
theorem lin_X7_bits : LinT t_X7_bits := sd_X7_bits.lin
theorem mt_X7_isOrdered : mt[197]? = some (t_X7_isOrdered, 8) := rfl
theorem lin_X7_isOrdered : LinT t_X7_isOrdered := sd_X7_isOrdered.lin
theorem mt_X7_neededSet : mt[198]? = some (t_X7_neededSet, 1) := rfl
theorem lin_X7_neededSet : LinT t_X7_neededSet := sd_X7_neededSet.lin
theorem mt_X7_idle : mt[199]? = some (t_X7_idle, 3) := rfl
theorem lin_X7_idle : LinT t_X7_idle := sd_X7_idle.lin
theorem mt_X7_isLike : mt[200]? = some (t_X7_isLike, 3) := rfl
theorem lin_X7_isLike : LinT t_X7_isLike := sd_X7_isLike.lin
theorem mt_X7_missing : mt[201]? = some (t_X7_missing, 3) := rfl
theorem lin_X7_missing : LinT t_X7_missing := sd_X7_missing.lin
theorem mt_X7_takeLines : mt[202]? = some (t_X7_takeLines, 2) := rfl
theorem lin_X7_takeLines : LinT t_X7_takeLines := sd_X7_takeLines.lin
theorem mt_X7_isWanted : mt[203]? = some (t_X7_isWanted, 2) := rfl
theorem lin_X7_isWanted : LinT t_X7_isWanted := sd_X7_isWanted.lin
theorem mt_X7_wire : mt[204]? = some (t_X7_wire, 2) := rfl
theorem lin_X7_wire : LinT t_X7_wire := sd_X7_wire.lin
theorem mt_X7_tests : mt[205]? = some (t_X7_tests, 10) := rfl
theorem lin_X7_tests : LinT t_X7_tests := sd_X7_tests.lin
theorem mt_X7_testSet : mt[206]? = some (t_X7_testSet, 1) := rfl
theorem lin_X7_testSet : LinT t_X7_testSet := sd_X7_testSet.lin
theorem mt_X7_shown : mt[207]? = some (t_X7_shown, 1) := rfl
theorem lin_X7_shown : LinT t_X7_shown := sd_X7_shown.lin
theorem mt_X7_unseen : mt[208]? = some (t_X7_unseen, 3) := rfl
theorem lin_X7_unseen : LinT t_X7_unseen := sd_X7_unseen.lin
theorem mt_X7_unseenAt : mt[209]? = some (t_X7_unseenAt, 2) := rfl
theorem lin_X7_unseenAt : LinT t_X7_unseenAt := sd_X7_unseenAt.lin
theorem mt_X7_moves : mt[210]? = some (t_X7_moves, 9) := rfl
theorem lin_X7_moves : LinT t_X7_moves := sd_X7_moves.lin
theorem mt_X7_beginOf : mt[211]? = some (t_X7_beginOf, 1) := rfl
theorem lin_X7_beginOf : LinT t_X7_beginOf := sd_X7_beginOf.lin
theorem mt_X7_put : mt[212]? = some (t_X7_put, 4) := rfl
theorem lin_X7_put : LinT t_X7_put := sd_X7_put.lin
theorem mt_X7_move : mt[213]? = some (t_X7_move, 3) := rfl
theorem lin_X7_move : LinT t_X7_move := sd_X7_move.lin
theorem mt_X7_job : mt[214]? = some (t_X7_job, 2) := rfl
theorem lin_X7_job : LinT t_X7_job := sd_X7_job.lin
theorem mt_X7_readJob : mt[215]? = some (t_X7_readJob, 3) := rfl
theorem lin_X7_readJob : LinT t_X7_readJob := sd_X7_readJob.lin
theorem mt_X7_isWord : mt[216]? = some (t_X7_isWord, 3) := rfl
theorem lin_X7_isWord : LinT t_X7_isWord := sd_X7_isWord.lin
theorem mt_X7_want : mt[217]? = some (t_X7_want, 3) := rfl
theorem lin_X7_want : LinT t_X7_want := sd_X7_want.lin
theorem mt_X7_isName : mt[218]? = some (t_X7_isName, 1) := rfl
theorem lin_X7_isName : LinT t_X7_isName := sd_X7_isName.lin
theorem mt_X7_named : mt[219]? = some (t_X7_named, 4) := rfl
theorem lin_X7_named : LinT t_X7_named := sd_X7_named.lin
theorem mt_X7_field : mt[220]? = some (t_X7_field, 4) := rfl
theorem lin_X7_field : LinT t_X7_field := sd_X7_field.lin
theorem mt_X7_breaks : mt[221]? = some (t_X7_breaks, 3) := rfl
theorem lin_X7_breaks : LinT t_X7_breaks := sd_X7_breaks.lin
theorem mt_X7_runs : mt[222]? = some (t_X7_runs, 1) := rfl
theorem lin_X7_runs : LinT t_X7_runs := sd_X7_runs.lin
theorem mt_X7_plan : mt[223]? = some (t_X7_plan, 5) := rfl
theorem lin_X7_plan : LinT t_X7_plan := sd_X7_plan.lin
theorem mt_X7_make0 : mt[224]? = some (t_X7_make0, 9) := rfl
theorem lin_X7_make0 : LinT t_X7_make0 := sd_X7_make0.lin
theorem mt_X7_lay : mt[225]? = some (t_X7_lay, 3) := rfl
theorem lin_X7_lay : LinT t_X7_lay := sd_X7_lay.lin
theorem mt_X7_addends : mt[226]? = some (t_X7_addends, 5) := rfl
theorem lin_X7_addends : LinT t_X7_addends := sd_X7_addends.lin
theorem mt_X7_point : mt[227]? = some (t_X7_point, 3) := rfl
theorem lin_X7_point : LinT t_X7_point := sd_X7_point.lin
theorem mt_X7_wants : mt[228]? = some (t_X7_wants, 2) := rfl
theorem lin_X7_wants : LinT t_X7_wants := sd_X7_wants.lin
theorem mt_X7_part : mt[229]? = some (t_X7_part, 5) := rfl
theorem lin_X7_part : LinT t_X7_part := sd_X7_part.lin
theorem mt_X7_make : mt[230]? = some (t_X7_make, 4) := rfl
theorem lin_X7_make : LinT t_X7_make := sd_X7_make.lin
theorem mt_X7_wanted : mt[231]? = some (t_X7_wanted, 5) := rfl
theorem lin_X7_wanted : LinT t_X7_wanted := sd_X7_wanted.lin
theorem mt_X7_dues : mt[232]? = some (t_X7_dues, 7) := rfl
theorem lin_X7_dues : LinT t_X7_dues := sd_X7_dues.lin
theorem mt_X7_added : mt[233]? = some (t_X7_added, 6) := rfl
theorem lin_X7_added : LinT t_X7_added := sd_X7_added.lin
theorem mt_X7_dueLine : mt[234]? = some (t_X7_dueLine, 9) := rfl
theorem lin_X7_dueLine : LinT t_X7_dueLine := sd_X7_dueLine.lin
theorem mt_X7_wantedAt : mt[235]? = some (t_X7_wantedAt, 3) := rfl
theorem lin_X7_wantedAt : LinT t_X7_wantedAt := sd_X7_wantedAt.lin
theorem mt_X7_same : mt[236]? = some (t_X7_same, 6) := rfl
theorem lin_X7_same : LinT t_X7_same := sd_X7_same.lin
theorem mt_X7_keep : mt[237]? = some (t_X7_keep, 2) := rfl
theorem lin_X7_keep : LinT t_X7_keep := sd_X7_keep.lin
theorem mt_X7_use : mt[238]? = some (t_X7_use, 2) := rfl
theorem lin_X7_use : LinT t_X7_use := sd_X7_use.lin
theorem mt_X7_isThere : mt[239]? = some (t_X7_isThere, 2) := rfl
theorem lin_X7_isThere : LinT t_X7_isThere := sd_X7_isThere.lin
theorem mt_X7_apart : mt[240]? = some (t_X7_apart, 3) := rfl
theorem lin_X7_apart : LinT t_X7_apart := sd_X7_apart.lin
theorem mt_X7_differ : mt[241]? = some (t_X7_differ, 7) := rfl
theorem lin_X7_differ : LinT t_X7_differ := sd_X7_differ.lin
theorem mt_X7_isOne : mt[242]? = some (t_X7_isOne, 3) := rfl
theorem lin_X7_isOne : LinT t_X7_isOne := sd_X7_isOne.lin
theorem mt_X7_friday : mt[243]? = some (t_X7_friday, 7) := rfl
theorem lin_X7_friday : LinT t_X7_friday := sd_X7_friday.lin
theorem mt_X7_spell : mt[244]? = some (t_X7_spell, 10) := rfl
theorem lin_X7_spell : LinT t_X7_spell := sd_X7_spell.lin
theorem mt_X7_ends : mt[245]? = some (t_X7_ends, 5) := rfl
theorem lin_X7_ends : LinT t_X7_ends := sd_X7_ends.lin
theorem mt_X7_fridayAt : mt[246]? = some (t_X7_fridayAt, 2) := rfl
theorem lin_X7_fridayAt : LinT t_X7_fridayAt := sd_X7_fridayAt.lin
theorem mt_X7_count : mt[247]? = some (t_X7_count, 4) := rfl
theorem lin_X7_count : LinT t_X7_count := sd_X7_count.lin
theorem mt_X8_init : mt[248]? = some (t_X8_init, 4) := rfl
theorem lin_X8_init : LinT t_X8_init := sd_X8_init.lin
theorem mt_X8_go : mt[249]? = some (t_X8_go, 2) := rfl
theorem lin_X8_go : LinT t_X8_go := sd_X8_go.lin
theorem mt_X8_byteAt : mt[250]? = some (t_X8_byteAt, 2) := rfl
theorem lin_X8_byteAt : LinT t_X8_byteAt := sd_X8_byteAt.lin
theorem mt_X8_isLetter : mt[251]? = some (t_X8_isLetter, 1) := rfl
theorem lin_X8_isLetter : LinT t_X8_isLetter := sd_X8_isLetter.lin
theorem mt_X8_letters : mt[252]? = some (t_X8_letters, 2) := rfl
theorem lin_X8_letters : LinT t_X8_letters := sd_X8_letters.lin
theorem mt_X8_isNumeral : mt[253]? = some (t_X8_isNumeral, 1) := rfl
theorem lin_X8_isNumeral : LinT t_X8_isNumeral := sd_X8_isNumeral.lin
theorem mt_X8_digits : mt[254]? = some (t_X8_digits, 1) := rfl
theorem lin_X8_digits : LinT t_X8_digits := sd_X8_digits.lin
theorem mt_X8_need : mt[255]? = some (t_X8_need, 3) := rfl
theorem lin_X8_need : LinT t_X8_need := sd_X8_need.lin
theorem mt_X8_number : mt[256]? = some (t_X8_number, 4) := rfl
theorem lin_X8_number : LinT t_X8_number := sd_X8_number.lin
theorem mt_X8_sign : mt[257]? = some (t_X8_sign, 2) := rfl
theorem lin_X8_sign : LinT t_X8_sign := sd_X8_sign.lin
theorem mt_X8_is : mt[258]? = some (t_X8_is, 2) := rfl
theorem lin_X8_is : LinT t_X8_is := sd_X8_is.lin
theorem mt_X9_init : mt[259]? = some (t_X9_init, 3) := rfl
theorem lin_X9_init : LinT t_X9_init := sd_X9_init.lin
theorem mt_X9_read : mt[260]? = some (t_X9_read, 3) := rfl
theorem lin_X9_read : LinT t_X9_read := sd_X9_read.lin
theorem mt_X9_hub : mt[261]? = some (t_X9_hub, 6) := rfl
theorem lin_X9_hub : LinT t_X9_hub := sd_X9_hub.lin
theorem mt_X9_sort : mt[262]? = some (t_X9_sort, 5) := rfl
theorem lin_X9_sort : LinT t_X9_sort := sd_X9_sort.lin
theorem mt_L_law : mt[263]? = some (t_L_law, 7) := rfl
theorem lin_L_law : LinT t_L_law := sd_L_law.lin
def shL : List (Nat × Nat) := [(0, 0), (101, 740), (112, 8), (1, 0), (100, 60), (100, 60), (2, 0), (100, 217), (100, 96), (100, 217), (3, 0), (110, 60), (101, 12), (101, 12), (101, 12), (101, 12), (101, 12), (101, 12), (101, 12), (101, 12), (101, 12), (101, 12), (101, 12), (101, 12), (101, 12), (101, 12), (101, 12), (101, 12), (101, 12), (101, 12), (101, 12), (101, 12), (101, 12), (101, 12), (101, 12), (101, 12), (101, 12), (101, 12), (101, 12), (101, 12), (101, 12), (101, 12), (101, 12), (101, 12), (101, 12), (101, 12), (101, 12), (101, 12), (101, 12), (101, 12), (101, 12), (101, 12), (101, 12), (101, 12), (101, 12), (101, 12), (101, 12), (101, 12), (101, 12), (101, 12), (101, 12), (101, 12), (101, 12), (101, 12), (101, 12), (101, 12), (101, 12), (101, 12), (101, 12), (101, 12), (101, 12), (101, 12), (110, 40), (101, 20), (101, 20), (101, 20), (101, 20), (101, 20), (101, 20), (101, 20), (101, 20), (101, 20), (101, 20), (101, 20), (101, 20), (101, 20), (101, 20), (101, 20), (101, 20), (101, 20), (101, 20), (101, 20), (101, 20), (101, 20), (101, 20), (101, 20), (101, 20), (101, 20), (101, 20), (101, 20), (101, 20), (101, 20), (101, 20), (101, 20), (101, 20), (101, 20), (101, 20), (101, 20), (101, 20), (101, 20), (101, 20), (101, 20), (101, 20), (100, 4), (3, 0), (110, 60), (101, 12), (101, 12), (101, 12), (101, 12), (101, 12), (101, 12), (101, 12), (101, 12), (101, 12), (101, 12), (101, 12), (101, 12), (101, 12), (101, 12), (101, 12), (101, 12), (101, 12), (101, 12), (101, 12), (101, 12), (101, 12), (101, 12), (101, 12), (101, 12), (101, 12), (101, 12), (101, 12), (101, 12), (101, 12), (101, 12), (101, 12), (101, 12), (101, 12), (101, 12), (101, 12), (101, 12), (101, 12), (101, 12), (101, 12), (101, 12), (101, 12), (101, 12), (101, 12), (101, 12), (101, 12), (101, 12), (101, 12), (101, 12), (101, 12), (101, 12), (101, 12), (101, 12), (101, 12), (101, 12), (101, 12), (101, 12), (101, 12), (101, 12), (101, 12), (101, 12), (110, 40), (101, 20), (101, 20), (101, 20), (101, 20), (101, 20), (101, 20), (101, 20), (101, 20), (101, 20), (101, 20), (101, 20), (101, 20), (101, 20), (101, 20), (101, 20), (101, 20), (101, 20), (101, 20), (101, 20), (101, 20), (101, 20), (101, 20), (101, 20), (101, 20), (101, 20), (101, 20), (101, 20), (101, 20), (101, 20), (101, 20), (101, 20), (101, 20), (101, 20), (101, 20), (101, 20), (101, 20), (101, 20), (101, 20), (101, 20), (101, 20), (100, 4), (3, 0), (110, 60), (101, 12), (101, 12), (101, 12), (101, 12), (101, 12), (101, 12), (101, 12), (101, 12), (101, 12), (101, 12), (101, 12), (101, 12), (101, 12), (101, 12), (101, 12), (101, 12), (101, 12), (101, 12), (101, 12), (101, 12), (101, 12), (101, 12), (101, 12), (101, 12), (101, 12), (101, 12), (101, 12), (101, 12), (101, 12), (101, 12), (101, 12), (101, 12), (101, 12), (101, 12), (101, 12), (101, 12), (101, 12), (101, 12), (101, 12), (101, 12), (101, 12), (101, 12), (101, 12), (101, 12), (101, 12), (101, 12), (101, 12), (101, 12), (101, 12), (101, 12), (101, 12), (101, 12), (101, 12), (101, 12), (101, 12), (101, 12), (101, 12), (101, 12), (101, 12), (101, 12), (110, 40), (101, 20), (101, 20), (101, 20), (101, 20), (101, 20), (101, 20), (101, 20), (101, 20), (101, 20), (101, 20), (101, 20), (101, 20), (101, 20), (101, 20), (101, 20), (101, 20), (101, 20), (101, 20), (101, 20), (101, 20), (101, 20), (101, 20), (101, 20), (101, 20), (101, 20), (101, 20), (101, 20), (101, 20), (101, 20), (101, 20), (101, 20), (101, 20), (101, 20), (101, 20), (101, 20), (101, 20), (101, 20), (101, 20), (101, 20), (101, 20), (100, 4), (100, 60), (4, 0), (114, 6), (100, 6), (100, 6), (100, 3), (100, 8), (100, 8), (100, 8), (100, 8), (100, 256), (100, 8), (102, 256), (3, 0), (110, 60), (101, 12), (101, 12), (101, 12), (101, 12), (101, 12), (101, 12), (101, 12), (101, 12), (101, 12), (101, 12), (101, 12), (101, 12), (101, 12), (101, 12), (101, 12), (101, 12), (101, 12), (101, 12), (101, 12), (101, 12), (101, 12), (101, 12), (101, 12), (101, 12), (101, 12), (101, 12), (101, 12), (101, 12), (101, 12), (101, 12), (101, 12), (101, 12), (101, 12), (101, 12), (101, 12), (101, 12), (101, 12), (101, 12), (101, 12), (101, 12), (101, 12), (101, 12), (101, 12), (101, 12), (101, 12), (101, 12), (101, 12), (101, 12), (101, 12), (101, 12), (101, 12), (101, 12), (101, 12), (101, 12), (101, 12), (101, 12), (101, 12), (101, 12), (101, 12), (101, 12), (110, 40), (101, 20), (101, 20), (101, 20), (101, 20), (101, 20), (101, 20), (101, 20), (101, 20), (101, 20), (101, 20), (101, 20), (101, 20), (101, 20), (101, 20), (101, 20), (101, 20), (101, 20), (101, 20), (101, 20), (101, 20), (101, 20), (101, 20), (101, 20), (101, 20), (101, 20), (101, 20), (101, 20), (101, 20), (101, 20), (101, 20), (101, 20), (101, 20), (101, 20), (101, 20), (101, 20), (101, 20), (101, 20), (101, 20), (101, 20), (101, 20), (100, 4), (100, 40), (100, 100), (100, 100), (100, 100), (1, 0), (100, 60), (100, 60), (113, 8), (100, 6), (100, 6), (100, 6), (111, 7), (100, 6), (100, 6), (100, 6), (100, 6), (100, 6), (100, 6), (100, 6), (5, 0), (110, 40), (5, 0), (110, 40), (5, 0), (110, 40), (5, 0), (110, 40), (5, 0), (110, 40), (5, 0), (110, 40), (5, 0), (110, 40), (5, 0), (110, 40), (6, 0), (101, 740), (100, 6400), (100, 8), (100, 600), (100, 600), (100, 10), (100, 217), (102, 8), (100, 800), (100, 96), (100, 217), (100, 217), (100, 217), (100, 217), (102, 4), (100, 3), (100, 3), (100, 3), (100, 2160), (100, 12), (100, 2400), (100, 3), (100, 3), (100, 3), (100, 3), (100, 3), (100, 40), (100, 800), (100, 60), (100, 40), (100, 720), (100, 3), (103, 10), (100, 100), (100, 100), (100, 100), (100, 2), (100, 12), (100, 12), (100, 6), (100, 2), (100, 16), (100, 16), (100, 16), (100, 16), (103, 12), (100, 200), (100, 200), (100, 4), (100, 4), (100, 256), (100, 256), (102, 256), (100, 720), (100, 8), (100, 720), (100, 6), (100, 6), (102, 60), (103, 1)]
def refL : List (Nat × Int × Nat) := [(100, 0, 101), (100, 3, 102), (100, 5, 106), (100, 6, 110), (100, 7, 214), (100, 8, 318), (100, 10, 422), (100, 15, 432), (100, 16, 433), (100, 17, 434), (100, 19, 435), (100, 22, 539), (100, 24, 540), (100, 25, 541), (100, 26, 542), (100, 28, 543), (100, 29, 546), (100, 30, 547), (100, 31, 548), (100, 32, 549), (100, 33, 550), (102, 0, 558), (102, 1, 560), (102, 2, 562), (102, 3, 564), (102, 4, 566), (102, 5, 568), (102, 6, 570), (102, 7, 572), (103, 0, 104), (103, 1, 105), (106, 5, 107), (106, 6, 108), (106, 7, 109), (110, 8, 111), (110, 9, 172), (110, 10, 213), (214, 8, 215), (214, 9, 276), (214, 10, 317), (318, 8, 319), (318, 9, 380), (318, 10, 421), (423, 0, 424), (423, 1, 425), (423, 2, 426), (423, 3, 427), (423, 4, 428), (423, 5, 429), (423, 6, 430), (423, 7, 431), (435, 8, 436), (435, 9, 497), (435, 10, 538), (543, 0, 544), (543, 1, 545), (558, 0, 559), (560, 0, 561), (562, 0, 563), (564, 0, 565), (566, 0, 567), (568, 0, 569), (570, 0, 571), (572, 0, 573), (574, 1, 575), (574, 5, 576), (574, 6, 577), (574, 15, 578), (574, 16, 579), (574, 17, 580), (574, 18, 581), (574, 19, 582), (574, 23, 583), (574, 24, 584), (574, 25, 585), (574, 26, 586), (574, 27, 587), (574, 28, 588), (574, 29, 589), (574, 30, 590), (574, 31, 591), (574, 32, 592), (574, 33, 593), (574, 34, 594), (574, 35, 595), (574, 36, 596), (574, 37, 597), (574, 38, 598), (574, 39, 599), (574, 40, 600), (574, 45, 601), (574, 46, 602), (574, 48, 603), (574, 49, 604), (574, 50, 605), (574, 51, 606), (574, 52, 607), (574, 58, 608), (574, 59, 609), (574, 60, 610), (574, 62, 611), (574, 63, 612), (574, 64, 613), (574, 65, 614), (574, 66, 615), (574, 67, 616), (574, 68, 617), (574, 69, 618), (574, 70, 619), (574, 71, 620), (574, 72, 621), (574, 73, 622), (574, 74, 623), (574, 75, 624), (574, 76, 625), (574, 77, 626), (574, 78, 627), (574, 82, 628), (574, 83, 629), (574, 87, 630), (574, 88, 631), (574, 89, 632), (574, 91, 633)]
def rowL : List (Nat × Nat) := [(111, 60), (172, 40), (215, 60), (276, 40), (319, 60), (380, 40), (436, 60), (497, 40), (550, 7)]
/-- what the constructors made stays: the cells, the references that are never changed -/
def Stat (cr : HR) (sh : HS) : Prop := (∀ (k : Nat) (q : Nat × Nat), shL[k]? = some q → sh (100 + k) = some q) ∧ (∀ q ∈ refL, cr q.1 q.2.1 = some q.2.2) ∧ ∀ q ∈ rowL, ∀ k : Nat, k < q.2 → cr q.1 (k : Int) = some (q.1 + 1 + k)
section STAT
variable {cr : HR} {sh : HS}
theorem s_100 (h : Stat cr sh) : sh 100 = some (0, 0) := h.1 0 (0, 0) rfl
theorem s_101 (h : Stat cr sh) : sh 101 = some (101, 740) := h.1 1 (101, 740) rfl
theorem s_102 (h : Stat cr sh) : sh 102 = some (112, 8) := h.1 2 (112, 8) rfl
theorem s_103 (h : Stat cr sh) : sh 103 = some (1, 0) := h.1 3 (1, 0) rfl
theorem s_104 (h : Stat cr sh) : sh 104 = some (100, 60) := h.1 4 (100, 60) rfl
theorem s_105 (h : Stat cr sh) : sh 105 = some (100, 60) := h.1 5 (100, 60) rfl
theorem s_106 (h : Stat cr sh) : sh 106 = some (2, 0) := h.1 6 (2, 0) rfl
theorem s_107 (h : Stat cr sh) : sh 107 = some (100, 217) := h.1 7 (100, 217) rfl
theorem s_108 (h : Stat cr sh) : sh 108 = some (100, 96) := h.1 8 (100, 96) rfl
theorem s_109 (h : Stat cr sh) : sh 109 = some (100, 217) := h.1 9 (100, 217) rfl
theorem s_110 (h : Stat cr sh) : sh 110 = some (3, 0) := h.1 10 (3, 0) rfl
theorem s_111 (h : Stat cr sh) : sh 111 = some (110, 60) := h.1 11 (110, 60) rfl
theorem s_172 (h : Stat cr sh) : sh 172 = some (110, 40) := h.1 72 (110, 40) rfl
theorem s_213 (h : Stat cr sh) : sh 213 = some (100, 4) := h.1 113 (100, 4) rfl
theorem s_214 (h : Stat cr sh) : sh 214 = some (3, 0) := h.1 114 (3, 0) rfl
theorem s_215 (h : Stat cr sh) : sh 215 = some (110, 60) := h.1 115 (110, 60) rfl
theorem s_276 (h : Stat cr sh) : sh 276 = some (110, 40) := h.1 176 (110, 40) rfl
theorem s_317 (h : Stat cr sh) : sh 317 = some (100, 4) := h.1 217 (100, 4) rfl
theorem s_318 (h : Stat cr sh) : sh 318 = some (3, 0) := h.1 218 (3, 0) rfl
theorem s_319 (h : Stat cr sh) : sh 319 = some (110, 60) := h.1 219 (110, 60) rfl
theorem s_380 (h : Stat cr sh) : sh 380 = some (110, 40) := h.1 280 (110, 40) rfl
theorem s_421 (h : Stat cr sh) : sh 421 = some (100, 4) := h.1 321 (100, 4) rfl
theorem s_422 (h : Stat cr sh) : sh 422 = some (100, 60) := h.1 322 (100, 60) rfl
theorem s_423 (h : Stat cr sh) : sh 423 = some (4, 0) := h.1 323 (4, 0) rfl
theorem s_424 (h : Stat cr sh) : sh 424 = some (114, 6) := h.1 324 (114, 6) rfl
theorem s_425 (h : Stat cr sh) : sh 425 = some (100, 6) := h.1 325 (100, 6) rfl
theorem s_426 (h : Stat cr sh) : sh 426 = some (100, 6) := h.1 326 (100, 6) rfl
theorem s_427 (h : Stat cr sh) : sh 427 = some (100, 3) := h.1 327 (100, 3) rfl
theorem s_428 (h : Stat cr sh) : sh 428 = some (100, 8) := h.1 328 (100, 8) rfl
theorem s_429 (h : Stat cr sh) : sh 429 = some (100, 8) := h.1 329 (100, 8) rfl
theorem s_430 (h : Stat cr sh) : sh 430 = some (100, 8) := h.1 330 (100, 8) rfl
theorem s_431 (h : Stat cr sh) : sh 431 = some (100, 8) := h.1 331 (100, 8) rfl
theorem s_432 (h : Stat cr sh) : sh 432 = some (100, 256) := h.1 332 (100, 256) rfl
theorem s_433 (h : Stat cr sh) : sh 433 = some (100, 8) := h.1 333 (100, 8) rfl
theorem s_434 (h : Stat cr sh) : sh 434 = some (102, 256) := h.1 334 (102, 256) rfl
theorem s_435 (h : Stat cr sh) : sh 435 = some (3, 0) := h.1 335 (3, 0) rfl
theorem s_436 (h : Stat cr sh) : sh 436 = some (110, 60) := h.1 336 (110, 60) rfl
theorem s_497 (h : Stat cr sh) : sh 497 = some (110, 40) := h.1 397 (110, 40) rfl
theorem s_538 (h : Stat cr sh) : sh 538 = some (100, 4) := h.1 438 (100, 4) rfl
theorem s_539 (h : Stat cr sh) : sh 539 = some (100, 40) := h.1 439 (100, 40) rfl
theorem s_540 (h : Stat cr sh) : sh 540 = some (100, 100) := h.1 440 (100, 100) rfl
theorem s_541 (h : Stat cr sh) : sh 541 = some (100, 100) := h.1 441 (100, 100) rfl
theorem s_542 (h : Stat cr sh) : sh 542 = some (100, 100) := h.1 442 (100, 100) rfl
theorem s_543 (h : Stat cr sh) : sh 543 = some (1, 0) := h.1 443 (1, 0) rfl
theorem s_544 (h : Stat cr sh) : sh 544 = some (100, 60) := h.1 444 (100, 60) rfl
theorem s_545 (h : Stat cr sh) : sh 545 = some (100, 60) := h.1 445 (100, 60) rfl
theorem s_546 (h : Stat cr sh) : sh 546 = some (113, 8) := h.1 446 (113, 8) rfl
theorem s_547 (h : Stat cr sh) : sh 547 = some (100, 6) := h.1 447 (100, 6) rfl
theorem s_548 (h : Stat cr sh) : sh 548 = some (100, 6) := h.1 448 (100, 6) rfl
theorem s_549 (h : Stat cr sh) : sh 549 = some (100, 6) := h.1 449 (100, 6) rfl
theorem s_550 (h : Stat cr sh) : sh 550 = some (111, 7) := h.1 450 (111, 7) rfl
theorem s_558 (h : Stat cr sh) : sh 558 = some (5, 0) := h.1 458 (5, 0) rfl
theorem s_559 (h : Stat cr sh) : sh 559 = some (110, 40) := h.1 459 (110, 40) rfl
theorem s_560 (h : Stat cr sh) : sh 560 = some (5, 0) := h.1 460 (5, 0) rfl
theorem s_561 (h : Stat cr sh) : sh 561 = some (110, 40) := h.1 461 (110, 40) rfl
theorem s_562 (h : Stat cr sh) : sh 562 = some (5, 0) := h.1 462 (5, 0) rfl
theorem s_563 (h : Stat cr sh) : sh 563 = some (110, 40) := h.1 463 (110, 40) rfl
theorem s_564 (h : Stat cr sh) : sh 564 = some (5, 0) := h.1 464 (5, 0) rfl
theorem s_565 (h : Stat cr sh) : sh 565 = some (110, 40) := h.1 465 (110, 40) rfl
theorem s_566 (h : Stat cr sh) : sh 566 = some (5, 0) := h.1 466 (5, 0) rfl
theorem s_567 (h : Stat cr sh) : sh 567 = some (110, 40) := h.1 467 (110, 40) rfl
theorem s_568 (h : Stat cr sh) : sh 568 = some (5, 0) := h.1 468 (5, 0) rfl
theorem s_569 (h : Stat cr sh) : sh 569 = some (110, 40) := h.1 469 (110, 40) rfl
theorem s_570 (h : Stat cr sh) : sh 570 = some (5, 0) := h.1 470 (5, 0) rfl
theorem s_571 (h : Stat cr sh) : sh 571 = some (110, 40) := h.1 471 (110, 40) rfl
theorem s_572 (h : Stat cr sh) : sh 572 = some (5, 0) := h.1 472 (5, 0) rfl
theorem s_573 (h : Stat cr sh) : sh 573 = some (110, 40) := h.1 473 (110, 40) rfl
theorem s_574 (h : Stat cr sh) : sh 574 = some (6, 0) := h.1 474 (6, 0) rfl
theorem s_575 (h : Stat cr sh) : sh 575 = some (101, 740) := h.1 475 (101, 740) rfl
theorem s_576 (h : Stat cr sh) : sh 576 = some (100, 6400) := h.1 476 (100, 6400) rfl
theorem s_577 (h : Stat cr sh) : sh 577 = some (100, 8) := h.1 477 (100, 8) rfl
theorem s_578 (h : Stat cr sh) : sh 578 = some (100, 600) := h.1 478 (100, 600) rfl
theorem s_579 (h : Stat cr sh) : sh 579 = some (100, 600) := h.1 479 (100, 600) rfl
theorem s_580 (h : Stat cr sh) : sh 580 = some (100, 10) := h.1 480 (100, 10) rfl
theorem s_581 (h : Stat cr sh) : sh 581 = some (100, 217) := h.1 481 (100, 217) rfl
theorem s_582 (h : Stat cr sh) : sh 582 = some (102, 8) := h.1 482 (102, 8) rfl
theorem s_583 (h : Stat cr sh) : sh 583 = some (100, 800) := h.1 483 (100, 800) rfl
theorem s_584 (h : Stat cr sh) : sh 584 = some (100, 96) := h.1 484 (100, 96) rfl
theorem s_585 (h : Stat cr sh) : sh 585 = some (100, 217) := h.1 485 (100, 217) rfl
theorem s_586 (h : Stat cr sh) : sh 586 = some (100, 217) := h.1 486 (100, 217) rfl
theorem s_587 (h : Stat cr sh) : sh 587 = some (100, 217) := h.1 487 (100, 217) rfl
theorem s_588 (h : Stat cr sh) : sh 588 = some (100, 217) := h.1 488 (100, 217) rfl
theorem s_589 (h : Stat cr sh) : sh 589 = some (102, 4) := h.1 489 (102, 4) rfl
theorem s_590 (h : Stat cr sh) : sh 590 = some (100, 3) := h.1 490 (100, 3) rfl
theorem s_591 (h : Stat cr sh) : sh 591 = some (100, 3) := h.1 491 (100, 3) rfl
theorem s_592 (h : Stat cr sh) : sh 592 = some (100, 3) := h.1 492 (100, 3) rfl
theorem s_593 (h : Stat cr sh) : sh 593 = some (100, 2160) := h.1 493 (100, 2160) rfl
theorem s_594 (h : Stat cr sh) : sh 594 = some (100, 12) := h.1 494 (100, 12) rfl
theorem s_595 (h : Stat cr sh) : sh 595 = some (100, 2400) := h.1 495 (100, 2400) rfl
theorem s_596 (h : Stat cr sh) : sh 596 = some (100, 3) := h.1 496 (100, 3) rfl
theorem s_597 (h : Stat cr sh) : sh 597 = some (100, 3) := h.1 497 (100, 3) rfl
theorem s_598 (h : Stat cr sh) : sh 598 = some (100, 3) := h.1 498 (100, 3) rfl
theorem s_599 (h : Stat cr sh) : sh 599 = some (100, 3) := h.1 499 (100, 3) rfl
theorem s_600 (h : Stat cr sh) : sh 600 = some (100, 3) := h.1 500 (100, 3) rfl
theorem s_601 (h : Stat cr sh) : sh 601 = some (100, 40) := h.1 501 (100, 40) rfl
theorem s_602 (h : Stat cr sh) : sh 602 = some (100, 800) := h.1 502 (100, 800) rfl
theorem s_603 (h : Stat cr sh) : sh 603 = some (100, 60) := h.1 503 (100, 60) rfl
theorem s_604 (h : Stat cr sh) : sh 604 = some (100, 40) := h.1 504 (100, 40) rfl
theorem s_605 (h : Stat cr sh) : sh 605 = some (100, 720) := h.1 505 (100, 720) rfl
theorem s_606 (h : Stat cr sh) : sh 606 = some (100, 3) := h.1 506 (100, 3) rfl
theorem s_607 (h : Stat cr sh) : sh 607 = some (103, 10) := h.1 507 (103, 10) rfl
theorem s_608 (h : Stat cr sh) : sh 608 = some (100, 100) := h.1 508 (100, 100) rfl
theorem s_609 (h : Stat cr sh) : sh 609 = some (100, 100) := h.1 509 (100, 100) rfl
theorem s_610 (h : Stat cr sh) : sh 610 = some (100, 100) := h.1 510 (100, 100) rfl
theorem s_611 (h : Stat cr sh) : sh 611 = some (100, 2) := h.1 511 (100, 2) rfl
theorem s_612 (h : Stat cr sh) : sh 612 = some (100, 12) := h.1 512 (100, 12) rfl
theorem s_613 (h : Stat cr sh) : sh 613 = some (100, 12) := h.1 513 (100, 12) rfl
theorem s_614 (h : Stat cr sh) : sh 614 = some (100, 6) := h.1 514 (100, 6) rfl
theorem s_615 (h : Stat cr sh) : sh 615 = some (100, 2) := h.1 515 (100, 2) rfl
theorem s_616 (h : Stat cr sh) : sh 616 = some (100, 16) := h.1 516 (100, 16) rfl
theorem s_617 (h : Stat cr sh) : sh 617 = some (100, 16) := h.1 517 (100, 16) rfl
theorem s_618 (h : Stat cr sh) : sh 618 = some (100, 16) := h.1 518 (100, 16) rfl
theorem s_619 (h : Stat cr sh) : sh 619 = some (100, 16) := h.1 519 (100, 16) rfl
theorem s_620 (h : Stat cr sh) : sh 620 = some (103, 12) := h.1 520 (103, 12) rfl
theorem s_621 (h : Stat cr sh) : sh 621 = some (100, 200) := h.1 521 (100, 200) rfl
theorem s_622 (h : Stat cr sh) : sh 622 = some (100, 200) := h.1 522 (100, 200) rfl
theorem s_623 (h : Stat cr sh) : sh 623 = some (100, 4) := h.1 523 (100, 4) rfl
theorem s_624 (h : Stat cr sh) : sh 624 = some (100, 4) := h.1 524 (100, 4) rfl
theorem s_625 (h : Stat cr sh) : sh 625 = some (100, 256) := h.1 525 (100, 256) rfl
theorem s_626 (h : Stat cr sh) : sh 626 = some (100, 256) := h.1 526 (100, 256) rfl
theorem s_627 (h : Stat cr sh) : sh 627 = some (102, 256) := h.1 527 (102, 256) rfl
theorem s_628 (h : Stat cr sh) : sh 628 = some (100, 720) := h.1 528 (100, 720) rfl
theorem s_629 (h : Stat cr sh) : sh 629 = some (100, 8) := h.1 529 (100, 8) rfl
theorem s_630 (h : Stat cr sh) : sh 630 = some (100, 720) := h.1 530 (100, 720) rfl
theorem s_631 (h : Stat cr sh) : sh 631 = some (100, 6) := h.1 531 (100, 6) rfl
theorem s_632 (h : Stat cr sh) : sh 632 = some (100, 6) := h.1 532 (100, 6) rfl
theorem s_633 (h : Stat cr sh) : sh 633 = some (102, 60) := h.1 533 (102, 60) rfl
theorem s_634 (h : Stat cr sh) : sh 634 = some (103, 1) := h.1 534 (103, 1) rfl
theorem rr_100_0 (h : Stat cr sh) : cr 100 0 = some 101 := h.2.1 (100, 0, 101) (List.mem_of_getElem? (i := 0) rfl)
theorem rr_100_3 (h : Stat cr sh) : cr 100 3 = some 102 := h.2.1 (100, 3, 102) (List.mem_of_getElem? (i := 1) rfl)
theorem rr_100_5 (h : Stat cr sh) : cr 100 5 = some 106 := h.2.1 (100, 5, 106) (List.mem_of_getElem? (i := 2) rfl)
theorem rr_100_6 (h : Stat cr sh) : cr 100 6 = some 110 := h.2.1 (100, 6, 110) (List.mem_of_getElem? (i := 3) rfl)
theorem rr_100_7 (h : Stat cr sh) : cr 100 7 = some 214 := h.2.1 (100, 7, 214) (List.mem_of_getElem? (i := 4) rfl)
theorem rr_100_8 (h : Stat cr sh) : cr 100 8 = some 318 := h.2.1 (100, 8, 318) (List.mem_of_getElem? (i := 5) rfl)
theorem rr_100_10 (h : Stat cr sh) : cr 100 10 = some 422 := h.2.1 (100, 10, 422) (List.mem_of_getElem? (i := 6) rfl)
theorem rr_100_15 (h : Stat cr sh) : cr 100 15 = some 432 := h.2.1 (100, 15, 432) (List.mem_of_getElem? (i := 7) rfl)
theorem rr_100_16 (h : Stat cr sh) : cr 100 16 = some 433 := h.2.1 (100, 16, 433) (List.mem_of_getElem? (i := 8) rfl)
theorem rr_100_17 (h : Stat cr sh) : cr 100 17 = some 434 := h.2.1 (100, 17, 434) (List.mem_of_getElem? (i := 9) rfl)
theorem rr_100_19 (h : Stat cr sh) : cr 100 19 = some 435 := h.2.1 (100, 19, 435) (List.mem_of_getElem? (i := 10) rfl)
theorem rr_100_22 (h : Stat cr sh) : cr 100 22 = some 539 := h.2.1 (100, 22, 539) (List.mem_of_getElem? (i := 11) rfl)
theorem rr_100_24 (h : Stat cr sh) : cr 100 24 = some 540 := h.2.1 (100, 24, 540) (List.mem_of_getElem? (i := 12) rfl)
theorem rr_100_25 (h : Stat cr sh) : cr 100 25 = some 541 := h.2.1 (100, 25, 541) (List.mem_of_getElem? (i := 13) rfl)
theorem rr_100_26 (h : Stat cr sh) : cr 100 26 = some 542 := h.2.1 (100, 26, 542) (List.mem_of_getElem? (i := 14) rfl)
theorem rr_100_28 (h : Stat cr sh) : cr 100 28 = some 543 := h.2.1 (100, 28, 543) (List.mem_of_getElem? (i := 15) rfl)
theorem rr_100_29 (h : Stat cr sh) : cr 100 29 = some 546 := h.2.1 (100, 29, 546) (List.mem_of_getElem? (i := 16) rfl)
theorem rr_100_30 (h : Stat cr sh) : cr 100 30 = some 547 := h.2.1 (100, 30, 547) (List.mem_of_getElem? (i := 17) rfl)
theorem rr_100_31 (h : Stat cr sh) : cr 100 31 = some 548 := h.2.1 (100, 31, 548) (List.mem_of_getElem? (i := 18) rfl)
theorem rr_100_32 (h : Stat cr sh) : cr 100 32 = some 549 := h.2.1 (100, 32, 549) (List.mem_of_getElem? (i := 19) rfl)
theorem rr_100_33 (h : Stat cr sh) : cr 100 33 = some 550 := h.2.1 (100, 33, 550) (List.mem_of_getElem? (i := 20) rfl)
theorem rr_102_0 (h : Stat cr sh) : cr 102 0 = some 558 := h.2.1 (102, 0, 558) (List.mem_of_getElem? (i := 21) rfl)
theorem rr_102_1 (h : Stat cr sh) : cr 102 1 = some 560 := h.2.1 (102, 1, 560) (List.mem_of_getElem? (i := 22) rfl)
theorem rr_102_2 (h : Stat cr sh) : cr 102 2 = some 562 := h.2.1 (102, 2, 562) (List.mem_of_getElem? (i := 23) rfl)
theorem rr_102_3 (h : Stat cr sh) : cr 102 3 = some 564 := h.2.1 (102, 3, 564) (List.mem_of_getElem? (i := 24) rfl)
theorem rr_102_4 (h : Stat cr sh) : cr 102 4 = some 566 := h.2.1 (102, 4, 566) (List.mem_of_getElem? (i := 25) rfl)
theorem rr_102_5 (h : Stat cr sh) : cr 102 5 = some 568 := h.2.1 (102, 5, 568) (List.mem_of_getElem? (i := 26) rfl)
theorem rr_102_6 (h : Stat cr sh) : cr 102 6 = some 570 := h.2.1 (102, 6, 570) (List.mem_of_getElem? (i := 27) rfl)
theorem rr_102_7 (h : Stat cr sh) : cr 102 7 = some 572 := h.2.1 (102, 7, 572) (List.mem_of_getElem? (i := 28) rfl)
theorem rr_103_0 (h : Stat cr sh) : cr 103 0 = some 104 := h.2.1 (103, 0, 104) (List.mem_of_getElem? (i := 29) rfl)
theorem rr_103_1 (h : Stat cr sh) : cr 103 1 = some 105 := h.2.1 (103, 1, 105) (List.mem_of_getElem? (i := 30) rfl)
theorem rr_106_5 (h : Stat cr sh) : cr 106 5 = some 107 := h.2.1 (106, 5, 107) (List.mem_of_getElem? (i := 31) rfl)
theorem rr_106_6 (h : Stat cr sh) : cr 106 6 = some 108 := h.2.1 (106, 6, 108) (List.mem_of_getElem? (i := 32) rfl)
theorem rr_106_7 (h : Stat cr sh) : cr 106 7 = some 109 := h.2.1 (106, 7, 109) (List.mem_of_getElem? (i := 33) rfl)
theorem rr_110_8 (h : Stat cr sh) : cr 110 8 = some 111 := h.2.1 (110, 8, 111) (List.mem_of_getElem? (i := 34) rfl)
theorem rr_110_9 (h : Stat cr sh) : cr 110 9 = some 172 := h.2.1 (110, 9, 172) (List.mem_of_getElem? (i := 35) rfl)
theorem rr_110_10 (h : Stat cr sh) : cr 110 10 = some 213 := h.2.1 (110, 10, 213) (List.mem_of_getElem? (i := 36) rfl)
theorem rr_214_8 (h : Stat cr sh) : cr 214 8 = some 215 := h.2.1 (214, 8, 215) (List.mem_of_getElem? (i := 37) rfl)
theorem rr_214_9 (h : Stat cr sh) : cr 214 9 = some 276 := h.2.1 (214, 9, 276) (List.mem_of_getElem? (i := 38) rfl)
theorem rr_214_10 (h : Stat cr sh) : cr 214 10 = some 317 := h.2.1 (214, 10, 317) (List.mem_of_getElem? (i := 39) rfl)
theorem rr_318_8 (h : Stat cr sh) : cr 318 8 = some 319 := h.2.1 (318, 8, 319) (List.mem_of_getElem? (i := 40) rfl)
theorem rr_318_9 (h : Stat cr sh) : cr 318 9 = some 380 := h.2.1 (318, 9, 380) (List.mem_of_getElem? (i := 41) rfl)
theorem rr_318_10 (h : Stat cr sh) : cr 318 10 = some 421 := h.2.1 (318, 10, 421) (List.mem_of_getElem? (i := 42) rfl)
theorem rr_423_0 (h : Stat cr sh) : cr 423 0 = some 424 := h.2.1 (423, 0, 424) (List.mem_of_getElem? (i := 43) rfl)
theorem rr_423_1 (h : Stat cr sh) : cr 423 1 = some 425 := h.2.1 (423, 1, 425) (List.mem_of_getElem? (i := 44) rfl)
theorem rr_423_2 (h : Stat cr sh) : cr 423 2 = some 426 := h.2.1 (423, 2, 426) (List.mem_of_getElem? (i := 45) rfl)
theorem rr_423_3 (h : Stat cr sh) : cr 423 3 = some 427 := h.2.1 (423, 3, 427) (List.mem_of_getElem? (i := 46) rfl)
theorem rr_423_4 (h : Stat cr sh) : cr 423 4 = some 428 := h.2.1 (423, 4, 428) (List.mem_of_getElem? (i := 47) rfl)
theorem rr_423_5 (h : Stat cr sh) : cr 423 5 = some 429 := h.2.1 (423, 5, 429) (List.mem_of_getElem? (i := 48) rfl)
theorem rr_423_6 (h : Stat cr sh) : cr 423 6 = some 430 := h.2.1 (423, 6, 430) (List.mem_of_getElem? (i := 49) rfl)
theorem rr_423_7 (h : Stat cr sh) : cr 423 7 = some 431 := h.2.1 (423, 7, 431) (List.mem_of_getElem? (i := 50) rfl)
theorem rr_435_8 (h : Stat cr sh) : cr 435 8 = some 436 := h.2.1 (435, 8, 436) (List.mem_of_getElem? (i := 51) rfl)
theorem rr_435_9 (h : Stat cr sh) : cr 435 9 = some 497 := h.2.1 (435, 9, 497) (List.mem_of_getElem? (i := 52) rfl)
theorem rr_435_10 (h : Stat cr sh) : cr 435 10 = some 538 := h.2.1 (435, 10, 538) (List.mem_of_getElem? (i := 53) rfl)
theorem rr_543_0 (h : Stat cr sh) : cr 543 0 = some 544 := h.2.1 (543, 0, 544) (List.mem_of_getElem? (i := 54) rfl)
theorem rr_543_1 (h : Stat cr sh) : cr 543 1 = some 545 := h.2.1 (543, 1, 545) (List.mem_of_getElem? (i := 55) rfl)
theorem rr_558_0 (h : Stat cr sh) : cr 558 0 = some 559 := h.2.1 (558, 0, 559) (List.mem_of_getElem? (i := 56) rfl)
theorem rr_560_0 (h : Stat cr sh) : cr 560 0 = some 561 := h.2.1 (560, 0, 561) (List.mem_of_getElem? (i := 57) rfl)
theorem rr_562_0 (h : Stat cr sh) : cr 562 0 = some 563 := h.2.1 (562, 0, 563) (List.mem_of_getElem? (i := 58) rfl)
theorem rr_564_0 (h : Stat cr sh) : cr 564 0 = some 565 := h.2.1 (564, 0, 565) (List.mem_of_getElem? (i := 59) rfl)
theorem rr_566_0 (h : Stat cr sh) : cr 566 0 = some 567 := h.2.1 (566, 0, 567) (List.mem_of_getElem? (i := 60) rfl)
theorem rr_568_0 (h : Stat cr sh) : cr 568 0 = some 569 := h.2.1 (568, 0, 569) (List.mem_of_getElem? (i := 61) rfl)
theorem rr_570_0 (h : Stat cr sh) : cr 570 0 = some 571 := h.2.1 (570, 0, 571) (List.mem_of_getElem? (i := 62) rfl)
theorem rr_572_0 (h : Stat cr sh) : cr 572 0 = some 573 := h.2.1 (572, 0, 573) (List.mem_of_getElem? (i := 63) rfl)
theorem rr_574_1 (h : Stat cr sh) : cr 574 1 = some 575 := h.2.1 (574, 1, 575) (List.mem_of_getElem? (i := 64) rfl)
theorem rr_574_5 (h : Stat cr sh) : cr 574 5 = some 576 := h.2.1 (574, 5, 576) (List.mem_of_getElem? (i := 65) rfl)
theorem rr_574_6 (h : Stat cr sh) : cr 574 6 = some 577 := h.2.1 (574, 6, 577) (List.mem_of_getElem? (i := 66) rfl)
theorem rr_574_15 (h : Stat cr sh) : cr 574 15 = some 578 := h.2.1 (574, 15, 578) (List.mem_of_getElem? (i := 67) rfl)
theorem rr_574_16 (h : Stat cr sh) : cr 574 16 = some 579 := h.2.1 (574, 16, 579) (List.mem_of_getElem? (i := 68) rfl)
theorem rr_574_17 (h : Stat cr sh) : cr 574 17 = some 580 := h.2.1 (574, 17, 580) (List.mem_of_getElem? (i := 69) rfl)
theorem rr_574_18 (h : Stat cr sh) : cr 574 18 = some 581 := h.2.1 (574, 18, 581) (List.mem_of_getElem? (i := 70) rfl)
theorem rr_574_19 (h : Stat cr sh) : cr 574 19 = some 582 := h.2.1 (574, 19, 582) (List.mem_of_getElem? (i := 71) rfl)
theorem rr_574_23 (h : Stat cr sh) : cr 574 23 = some 583 := h.2.1 (574, 23, 583) (List.mem_of_getElem? (i := 72) rfl)
theorem rr_574_24 (h : Stat cr sh) : cr 574 24 = some 584 := h.2.1 (574, 24, 584) (List.mem_of_getElem? (i := 73) rfl)
theorem rr_574_25 (h : Stat cr sh) : cr 574 25 = some 585 := h.2.1 (574, 25, 585) (List.mem_of_getElem? (i := 74) rfl)
theorem rr_574_26 (h : Stat cr sh) : cr 574 26 = some 586 := h.2.1 (574, 26, 586) (List.mem_of_getElem? (i := 75) rfl)
theorem rr_574_27 (h : Stat cr sh) : cr 574 27 = some 587 := h.2.1 (574, 27, 587) (List.mem_of_getElem? (i := 76) rfl)
theorem rr_574_28 (h : Stat cr sh) : cr 574 28 = some 588 := h.2.1 (574, 28, 588) (List.mem_of_getElem? (i := 77) rfl)
theorem rr_574_29 (h : Stat cr sh) : cr 574 29 = some 589 := h.2.1 (574, 29, 589) (List.mem_of_getElem? (i := 78) rfl)
theorem rr_574_30 (h : Stat cr sh) : cr 574 30 = some 590 := h.2.1 (574, 30, 590) (List.mem_of_getElem? (i := 79) rfl)
theorem rr_574_31 (h : Stat cr sh) : cr 574 31 = some 591 := h.2.1 (574, 31, 591) (List.mem_of_getElem? (i := 80) rfl)
theorem rr_574_32 (h : Stat cr sh) : cr 574 32 = some 592 := h.2.1 (574, 32, 592) (List.mem_of_getElem? (i := 81) rfl)
theorem rr_574_33 (h : Stat cr sh) : cr 574 33 = some 593 := h.2.1 (574, 33, 593) (List.mem_of_getElem? (i := 82) rfl)
theorem rr_574_34 (h : Stat cr sh) : cr 574 34 = some 594 := h.2.1 (574, 34, 594) (List.mem_of_getElem? (i := 83) rfl)
theorem rr_574_35 (h : Stat cr sh) : cr 574 35 = some 595 := h.2.1 (574, 35, 595) (List.mem_of_getElem? (i := 84) rfl)
theorem rr_574_36 (h : Stat cr sh) : cr 574 36 = some 596 := h.2.1 (574, 36, 596) (List.mem_of_getElem? (i := 85) rfl)
theorem rr_574_37 (h : Stat cr sh) : cr 574 37 = some 597 := h.2.1 (574, 37, 597) (List.mem_of_getElem? (i := 86) rfl)
theorem rr_574_38 (h : Stat cr sh) : cr 574 38 = some 598 := h.2.1 (574, 38, 598) (List.mem_of_getElem? (i := 87) rfl)
theorem rr_574_39 (h : Stat cr sh) : cr 574 39 = some 599 := h.2.1 (574, 39, 599) (List.mem_of_getElem? (i := 88) rfl)
theorem rr_574_40 (h : Stat cr sh) : cr 574 40 = some 600 := h.2.1 (574, 40, 600) (List.mem_of_getElem? (i := 89) rfl)
theorem rr_574_45 (h : Stat cr sh) : cr 574 45 = some 601 := h.2.1 (574, 45, 601) (List.mem_of_getElem? (i := 90) rfl)
theorem rr_574_46 (h : Stat cr sh) : cr 574 46 = some 602 := h.2.1 (574, 46, 602) (List.mem_of_getElem? (i := 91) rfl)
theorem rr_574_48 (h : Stat cr sh) : cr 574 48 = some 603 := h.2.1 (574, 48, 603) (List.mem_of_getElem? (i := 92) rfl)
theorem rr_574_49 (h : Stat cr sh) : cr 574 49 = some 604 := h.2.1 (574, 49, 604) (List.mem_of_getElem? (i := 93) rfl)
theorem rr_574_50 (h : Stat cr sh) : cr 574 50 = some 605 := h.2.1 (574, 50, 605) (List.mem_of_getElem? (i := 94) rfl)
theorem rr_574_51 (h : Stat cr sh) : cr 574 51 = some 606 := h.2.1 (574, 51, 606) (List.mem_of_getElem? (i := 95) rfl)
theorem rr_574_52 (h : Stat cr sh) : cr 574 52 = some 607 := h.2.1 (574, 52, 607) (List.mem_of_getElem? (i := 96) rfl)
theorem rr_574_58 (h : Stat cr sh) : cr 574 58 = some 608 := h.2.1 (574, 58, 608) (List.mem_of_getElem? (i := 97) rfl)
theorem rr_574_59 (h : Stat cr sh) : cr 574 59 = some 609 := h.2.1 (574, 59, 609) (List.mem_of_getElem? (i := 98) rfl)
theorem rr_574_60 (h : Stat cr sh) : cr 574 60 = some 610 := h.2.1 (574, 60, 610) (List.mem_of_getElem? (i := 99) rfl)
theorem rr_574_62 (h : Stat cr sh) : cr 574 62 = some 611 := h.2.1 (574, 62, 611) (List.mem_of_getElem? (i := 100) rfl)
theorem rr_574_63 (h : Stat cr sh) : cr 574 63 = some 612 := h.2.1 (574, 63, 612) (List.mem_of_getElem? (i := 101) rfl)
theorem rr_574_64 (h : Stat cr sh) : cr 574 64 = some 613 := h.2.1 (574, 64, 613) (List.mem_of_getElem? (i := 102) rfl)
theorem rr_574_65 (h : Stat cr sh) : cr 574 65 = some 614 := h.2.1 (574, 65, 614) (List.mem_of_getElem? (i := 103) rfl)
theorem rr_574_66 (h : Stat cr sh) : cr 574 66 = some 615 := h.2.1 (574, 66, 615) (List.mem_of_getElem? (i := 104) rfl)
theorem rr_574_67 (h : Stat cr sh) : cr 574 67 = some 616 := h.2.1 (574, 67, 616) (List.mem_of_getElem? (i := 105) rfl)
theorem rr_574_68 (h : Stat cr sh) : cr 574 68 = some 617 := h.2.1 (574, 68, 617) (List.mem_of_getElem? (i := 106) rfl)
theorem rr_574_69 (h : Stat cr sh) : cr 574 69 = some 618 := h.2.1 (574, 69, 618) (List.mem_of_getElem? (i := 107) rfl)
theorem rr_574_70 (h : Stat cr sh) : cr 574 70 = some 619 := h.2.1 (574, 70, 619) (List.mem_of_getElem? (i := 108) rfl)
theorem rr_574_71 (h : Stat cr sh) : cr 574 71 = some 620 := h.2.1 (574, 71, 620) (List.mem_of_getElem? (i := 109) rfl)
theorem rr_574_72 (h : Stat cr sh) : cr 574 72 = some 621 := h.2.1 (574, 72, 621) (List.mem_of_getElem? (i := 110) rfl)
theorem rr_574_73 (h : Stat cr sh) : cr 574 73 = some 622 := h.2.1 (574, 73, 622) (List.mem_of_getElem? (i := 111) rfl)
theorem rr_574_74 (h : Stat cr sh) : cr 574 74 = some 623 := h.2.1 (574, 74, 623) (List.mem_of_getElem? (i := 112) rfl)
theorem rr_574_75 (h : Stat cr sh) : cr 574 75 = some 624 := h.2.1 (574, 75, 624) (List.mem_of_getElem? (i := 113) rfl)
theorem rr_574_76 (h : Stat cr sh) : cr 574 76 = some 625 := h.2.1 (574, 76, 625) (List.mem_of_getElem? (i := 114) rfl)
theorem rr_574_77 (h : Stat cr sh) : cr 574 77 = some 626 := h.2.1 (574, 77, 626) (List.mem_of_getElem? (i := 115) rfl)
theorem rr_574_78 (h : Stat cr sh) : cr 574 78 = some 627 := h.2.1 (574, 78, 627) (List.mem_of_getElem? (i := 116) rfl)
theorem rr_574_82 (h : Stat cr sh) : cr 574 82 = some 628 := h.2.1 (574, 82, 628) (List.mem_of_getElem? (i := 117) rfl)
theorem rr_574_83 (h : Stat cr sh) : cr 574 83 = some 629 := h.2.1 (574, 83, 629) (List.mem_of_getElem? (i := 118) rfl)
theorem rr_574_87 (h : Stat cr sh) : cr 574 87 = some 630 := h.2.1 (574, 87, 630) (List.mem_of_getElem? (i := 119) rfl)
theorem rr_574_88 (h : Stat cr sh) : cr 574 88 = some 631 := h.2.1 (574, 88, 631) (List.mem_of_getElem? (i := 120) rfl)
theorem rr_574_89 (h : Stat cr sh) : cr 574 89 = some 632 := h.2.1 (574, 89, 632) (List.mem_of_getElem? (i := 121) rfl)
theorem rr_574_91 (h : Stat cr sh) : cr 574 91 = some 633 := h.2.1 (574, 91, 633) (List.mem_of_getElem? (i := 122) rfl)
theorem row_111 (h : Stat cr sh) {k : Int} (h0 : 0 ≤ k) (h1 : k < 60) : cr 111 k = some (112 + k.toNat) := by
  have e := h.2.2 (111, 60) (List.mem_of_getElem? (i := 0) rfl) k.toNat (by show k.toNat < 60; omega)
  rw [show ((k.toNat : Nat) : Int) = k by omega] at e
  exact e
theorem srow_111 (h : Stat cr sh) {k : Nat} (h1 : k < 60) : sh (112 + k) = some (101, 12) := by
  have w : ∀ j, j < 60 → shL[12 + j]? = some (101, 12) := by decide +kernel
  have e := h.1 (12 + k) (101, 12) (w k h1)
  rw [show 100 + (12 + k) = 112 + k by omega] at e
  exact e
theorem row_172 (h : Stat cr sh) {k : Int} (h0 : 0 ≤ k) (h1 : k < 40) : cr 172 k = some (173 + k.toNat) := by
  have e := h.2.2 (172, 40) (List.mem_of_getElem? (i := 1) rfl) k.toNat (by show k.toNat < 40; omega)
  rw [show ((k.toNat : Nat) : Int) = k by omega] at e
  exact e
theorem srow_172 (h : Stat cr sh) {k : Nat} (h1 : k < 40) : sh (173 + k) = some (101, 20) := by
  have w : ∀ j, j < 40 → shL[73 + j]? = some (101, 20) := by decide +kernel
  have e := h.1 (73 + k) (101, 20) (w k h1)
  rw [show 100 + (73 + k) = 173 + k by omega] at e
  exact e
theorem row_215 (h : Stat cr sh) {k : Int} (h0 : 0 ≤ k) (h1 : k < 60) : cr 215 k = some (216 + k.toNat) := by
  have e := h.2.2 (215, 60) (List.mem_of_getElem? (i := 2) rfl) k.toNat (by show k.toNat < 60; omega)
  rw [show ((k.toNat : Nat) : Int) = k by omega] at e
  exact e
theorem srow_215 (h : Stat cr sh) {k : Nat} (h1 : k < 60) : sh (216 + k) = some (101, 12) := by
  have w : ∀ j, j < 60 → shL[116 + j]? = some (101, 12) := by decide +kernel
  have e := h.1 (116 + k) (101, 12) (w k h1)
  rw [show 100 + (116 + k) = 216 + k by omega] at e
  exact e
theorem row_276 (h : Stat cr sh) {k : Int} (h0 : 0 ≤ k) (h1 : k < 40) : cr 276 k = some (277 + k.toNat) := by
  have e := h.2.2 (276, 40) (List.mem_of_getElem? (i := 3) rfl) k.toNat (by show k.toNat < 40; omega)
  rw [show ((k.toNat : Nat) : Int) = k by omega] at e
  exact e
theorem srow_276 (h : Stat cr sh) {k : Nat} (h1 : k < 40) : sh (277 + k) = some (101, 20) := by
  have w : ∀ j, j < 40 → shL[177 + j]? = some (101, 20) := by decide +kernel
  have e := h.1 (177 + k) (101, 20) (w k h1)
  rw [show 100 + (177 + k) = 277 + k by omega] at e
  exact e
theorem row_319 (h : Stat cr sh) {k : Int} (h0 : 0 ≤ k) (h1 : k < 60) : cr 319 k = some (320 + k.toNat) := by
  have e := h.2.2 (319, 60) (List.mem_of_getElem? (i := 4) rfl) k.toNat (by show k.toNat < 60; omega)
  rw [show ((k.toNat : Nat) : Int) = k by omega] at e
  exact e
theorem srow_319 (h : Stat cr sh) {k : Nat} (h1 : k < 60) : sh (320 + k) = some (101, 12) := by
  have w : ∀ j, j < 60 → shL[220 + j]? = some (101, 12) := by decide +kernel
  have e := h.1 (220 + k) (101, 12) (w k h1)
  rw [show 100 + (220 + k) = 320 + k by omega] at e
  exact e
theorem row_380 (h : Stat cr sh) {k : Int} (h0 : 0 ≤ k) (h1 : k < 40) : cr 380 k = some (381 + k.toNat) := by
  have e := h.2.2 (380, 40) (List.mem_of_getElem? (i := 5) rfl) k.toNat (by show k.toNat < 40; omega)
  rw [show ((k.toNat : Nat) : Int) = k by omega] at e
  exact e
theorem srow_380 (h : Stat cr sh) {k : Nat} (h1 : k < 40) : sh (381 + k) = some (101, 20) := by
  have w : ∀ j, j < 40 → shL[281 + j]? = some (101, 20) := by decide +kernel
  have e := h.1 (281 + k) (101, 20) (w k h1)
  rw [show 100 + (281 + k) = 381 + k by omega] at e
  exact e
theorem row_436 (h : Stat cr sh) {k : Int} (h0 : 0 ≤ k) (h1 : k < 60) : cr 436 k = some (437 + k.toNat) := by
  have e := h.2.2 (436, 60) (List.mem_of_getElem? (i := 6) rfl) k.toNat (by show k.toNat < 60; omega)
  rw [show ((k.toNat : Nat) : Int) = k by omega] at e
  exact e
theorem srow_436 (h : Stat cr sh) {k : Nat} (h1 : k < 60) : sh (437 + k) = some (101, 12) := by
  have w : ∀ j, j < 60 → shL[337 + j]? = some (101, 12) := by decide +kernel
  have e := h.1 (337 + k) (101, 12) (w k h1)
  rw [show 100 + (337 + k) = 437 + k by omega] at e
  exact e
theorem row_497 (h : Stat cr sh) {k : Int} (h0 : 0 ≤ k) (h1 : k < 40) : cr 497 k = some (498 + k.toNat) := by
  have e := h.2.2 (497, 40) (List.mem_of_getElem? (i := 7) rfl) k.toNat (by show k.toNat < 40; omega)
  rw [show ((k.toNat : Nat) : Int) = k by omega] at e
  exact e
theorem srow_497 (h : Stat cr sh) {k : Nat} (h1 : k < 40) : sh (498 + k) = some (101, 20) := by
  have w : ∀ j, j < 40 → shL[398 + j]? = some (101, 20) := by decide +kernel
  have e := h.1 (398 + k) (101, 20) (w k h1)
  rw [show 100 + (398 + k) = 498 + k by omega] at e
  exact e
theorem row_550 (h : Stat cr sh) {k : Int} (h0 : 0 ≤ k) (h1 : k < 7) : cr 550 k = some (551 + k.toNat) := by
  have e := h.2.2 (550, 7) (List.mem_of_getElem? (i := 8) rfl) k.toNat (by show k.toNat < 7; omega)
  rw [show ((k.toNat : Nat) : Int) = k by omega] at e
  exact e
theorem srow_550 (h : Stat cr sh) {k : Nat} (h1 : k < 7) : sh (551 + k) = some (100, 6) := by
  have w : ∀ j, j < 7 → shL[451 + j]? = some (100, 6) := by decide +kernel
  have e := h.1 (451 + k) (100, 6) (w k h1)
  rw [show 100 + (451 + k) = 551 + k by omega] at e
  exact e
end STAT
