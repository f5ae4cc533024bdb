/-! TABLES, by program: classes, methods, fields, the fixed cells -/
theorem ck0 : tcK 0 RX0 TX0 48 := ⟨rfl, in_X0, tyX0_ok, nmX0, by decide⟩
theorem ck1 : tcK 1 RX1 TX1 8 := ⟨rfl, in_X1, tyX1_ok, nmX1, by decide⟩
theorem ck2 : tcK 2 RX2 TX2 10 := ⟨rfl, in_X2, tyX2_ok, nmX2, by decide⟩
theorem ck3 : tcK 3 RX3 TX3 4 := ⟨rfl, in_X3, tyX3_ok, nmX3, by decide⟩
theorem ck4 : tcK 4 RX4 TX4 8 := ⟨rfl, in_X4, tyX4_ok, nmX4, by decide⟩
theorem ck5 : tcK 5 RX5 TX5 2 := ⟨rfl, in_X5, tyX5_ok, nmX5, by decide⟩
theorem ck6 : tcK 6 RX6 TX6 79 := ⟨rfl, in_X6, tyX6_ok, nmX6, by decide⟩
theorem ck7 : tcK 7 RX7 TX7 7 := ⟨rfl, in_X7, tyX7_ok, nmX7, by decide⟩
theorem ck8 : tcK 8 RX8 TX8 3 := ⟨rfl, in_X8, tyX8_ok, nmX8, by decide⟩
theorem ck9 : tcK 9 RX10 TX10 1 := ⟨rfl, in_X10, tyX10_ok, nmX10, by decide⟩
theorem ck10 : tcK 10 RX11 TX11 1 := ⟨rfl, in_X11, tyX11_ok, nmX11, by decide⟩
theorem ck11 : tcK 11 RX12 TX12 1 := ⟨rfl, in_X12, tyX12_ok, nmX12, by decide⟩
abbrev mJ0_init : tM := (yJ0_init, cJ0_init, 1, none, [])
theorem kJ0_init : tcal mJ0_init := ⟨q176, q117, by decide, by decide⟩
abbrev mJ0_init_2 : tM := (yJ0_init_2, cJ0_init_2, 5, none, [])
theorem kJ0_init_2 : tcal mJ0_init_2 := ⟨q218, q117, by decide, by decide⟩
abbrev mJ0_init_3 : tM := (yJ0_init_3, cJ0_init_3, 2, none, [])
theorem kJ0_init_3 : tcal mJ0_init_3 := ⟨q549, q117, by decide, by decide⟩
abbrev mJ10_checkIndex : tM := (yJ10_checkIndex, cJ10_checkIndex, 3, some (.int), [])
theorem kJ10_checkIndex : tcal mJ10_checkIndex := ⟨q725, q134, by decide, by decide⟩
abbrev mJ11_charAt : tM := (yJ11_charAt, cJ11_charAt, 2, some (.char), [])
theorem kJ11_charAt : tcal mJ11_charAt := ⟨q728, q135, by decide, by decide⟩
abbrev mJ11_checkIndex : tM := (yJ11_checkIndex, cJ11_checkIndex, 2, none, [])
theorem kJ11_checkIndex : tcal mJ11_checkIndex := ⟨q731, q135, by decide, by decide⟩
abbrev mJ11_getChar : tM := (yJ11_getChar, cJ11_getChar, 2, some (.char), [])
theorem kJ11_getChar : tcal mJ11_getChar := ⟨q738, q135, by decide, by decide⟩
abbrev mJ11_length : tM := (yJ11_length, cJ11_length, 1, some (.int), [])
theorem kJ11_length : tcal mJ11_length := ⟨q734, q135, by decide, by decide⟩
abbrev mJ12_init : tM := (yJ12_init, cJ12_init, 1, none, [])
abbrev mJ1_init : tM := (yJ1_init, cJ1_init, 5, none, [])
theorem kJ1_init : tcal mJ1_init := ⟨q215, q118, by decide, by decide⟩
abbrev mJ1_init_2 : tM := (yJ1_init_2, cJ1_init_2, 2, none, [])
theorem kJ1_init_2 : tcal mJ1_init_2 := ⟨q546, q118, by decide, by decide⟩
abbrev mJ1_init_3 : tM := (yJ1_init_3, cJ1_init_3, 1, none, [])
theorem kJ1_init_3 : tcal mJ1_init_3 := ⟨q588, q118, by decide, by decide⟩
abbrev mJ2_init : tM := (yJ2_init, cJ2_init, 5, none, [])
theorem kJ2_init : tcal mJ2_init := ⟨q212, q119, by decide, by decide⟩
abbrev mJ2_init_2 : tM := (yJ2_init_2, cJ2_init_2, 2, none, [])
theorem kJ2_init_2 : tcal mJ2_init_2 := ⟨q543, q119, by decide, by decide⟩
abbrev mJ2_init_3 : tM := (yJ2_init_3, cJ2_init_3, 1, none, [])
theorem kJ2_init_3 : tcal mJ2_init_3 := ⟨q585, q119, by decide, by decide⟩
abbrev mJ3_init : tM := (yJ3_init, cJ3_init, 2, none, [])
theorem kJ3_init : tcal mJ3_init := ⟨q540, q126, by decide, by decide⟩
abbrev mJ4_charAt : tM := (yJ4_charAt, cJ4_charAt, 2, some (.char), [])
theorem kJ4_charAt : tcal mJ4_charAt := ⟨q710, q127, by decide, by decide⟩
abbrev mJ4_checkIndex : tM := (yJ4_checkIndex, cJ4_checkIndex, 2, none, [])
theorem kJ4_checkIndex : tcal mJ4_checkIndex := ⟨q720, q127, by decide, by decide⟩
abbrev mJ4_coder : tM := (yJ4_coder, cJ4_coder, 1, some (.byte), [])
theorem kJ4_coder : tcal mJ4_coder := ⟨q704, q127, by decide, by decide⟩
abbrev mJ4_isLatin1 : tM := (yJ4_isLatin1, cJ4_isLatin1, 1, some (.boolean), [])
theorem kJ4_isLatin1 : tcal mJ4_isLatin1 := ⟨q714, q127, by decide, by decide⟩
abbrev mJ4_length : tM := (yJ4_length, cJ4_length, 1, some (.int), [])
theorem kJ4_length : tcal mJ4_length := ⟨q700, q127, by decide, by decide⟩
abbrev mJ5_init : tM := (yJ5_init, cJ5_init, 1, none, [])
theorem kJ5_init : tcal mJ5_init := ⟨q582, q128, by decide, by decide⟩
abbrev mJ6_init : tM := (yJ6_init, cJ6_init, 2, none, [])
theorem kJ6_init : tcal mJ6_init := ⟨q611, q129, by decide, by decide⟩
abbrev mJ7_init : tM := (yJ7_init, cJ7_init, 2, none, [])
theorem kJ7_init : tcal mJ7_init := ⟨q608, q130, by decide, by decide⟩
abbrev mJ8_abs : tM := (yJ8_abs, cJ8_abs, 2, some (.long), [])
theorem kJ8_abs : tcal mJ8_abs := ⟨q1161, q132, by decide, by decide⟩
abbrev mJ8_max : tM := (yJ8_max, cJ8_max, 2, some (.int), [])
theorem kJ8_max : tcal mJ8_max := ⟨q1041, q132, by decide, by decide⟩
abbrev mJ8_max_2 : tM := (yJ8_max_2, cJ8_max_2, 4, some (.long), [])
theorem kJ8_max_2 : tcal mJ8_max_2 := ⟨q1164, q132, by decide, by decide⟩
abbrev mJ8_min : tM := (yJ8_min, cJ8_min, 2, some (.int), [])
theorem kJ8_min : tcal mJ8_min := ⟨q687, q132, by decide, by decide⟩
abbrev mJ9_charAt : tM := (yJ9_charAt, cJ9_charAt, 2, some (.char), [])
theorem kJ9_charAt : tcal mJ9_charAt := ⟨q717, q133, by decide, by decide⟩
abbrev mX0_adds : tM := (yX0_adds, cX0_adds, 2, some (.int), [])
theorem kX0_adds : tcal mX0_adds := ⟨q951, q116, by decide, by decide⟩
abbrev mX0_agreed : tM := (yX0_agreed, cX0_agreed, 2, some (.int), [])
theorem kX0_agreed : tcal mX0_agreed := ⟨q1065, q116, by decide, by decide⟩
abbrev mX0_alike : tM := (yX0_alike, cX0_alike, 2, some (.int), [])
theorem kX0_alike : tcal mX0_alike := ⟨q1089, q116, by decide, by decide⟩
abbrev mX0_alikeStep : tM := (yX0_alikeStep, cX0_alikeStep, 2, some (.int), [])
theorem kX0_alikeStep : tcal mX0_alikeStep := ⟨q1093, q116, by decide, by decide⟩
abbrev mX0_allLikely : tM := (yX0_allLikely, cX0_allLikely, 5, some (.long), [])
theorem kX0_allLikely : tcal mX0_allLikely := ⟨q1045, q116, by decide, by decide⟩
abbrev mX0_apart : tM := (yX0_apart, cX0_apart, 12, some (.long), [])
theorem kX0_apart : tcal mX0_apart := ⟨q1121, q116, by decide, by decide⟩
abbrev mX0_areFrom : tM := (yX0_areFrom, cX0_areFrom, 8, some (.boolean), [])
theorem kX0_areFrom : tcal mX0_areFrom := ⟨q913, q116, by decide, by decide⟩
abbrev mX0_areLike : tM := (yX0_areLike, cX0_areLike, 6, some (.boolean), [])
theorem kX0_areLike : tcal mX0_areLike := ⟨q1061, q116, by decide, by decide⟩
abbrev mX0_areWays : tM := (yX0_areWays, cX0_areWays, 4, some (.boolean), [])
theorem kX0_areWays : tcal mX0_areWays := ⟨q1149, q116, by decide, by decide⟩
abbrev mX0_beginRows : tM := (yX0_beginRows, cX0_beginRows, 6, none, [])
theorem kX0_beginRows : tcal mX0_beginRows := ⟨q1069, q116, by decide, by decide⟩
abbrev mX0_bestDrawn : tM := (yX0_bestDrawn, cX0_bestDrawn, 12, some (.int), [])
theorem kX0_bestDrawn : tcal mX0_bestDrawn := ⟨q1133, q116, by decide, by decide⟩
abbrev mX0_bottom : tM := (yX0_bottom, cX0_bottom, 1, some (.long), [])
theorem kX0_bottom : tcal mX0_bottom := ⟨q532, q116, by decide, by decide⟩
abbrev mX0_chance : tM := (yX0_chance, cX0_chance, 2, some (.boolean), [])
theorem kX0_chance : tcal mX0_chance := ⟨q1172, q116, by decide, by decide⟩
abbrev mX0_clock : tM := (yX0_clock, cX0_clock, 5, some (.int), [])
theorem kX0_clock : tcal mX0_clock := ⟨q904, q116, by decide, by decide⟩
abbrev mX0_cross : tM := (yX0_cross, cX0_cross, 13, none, [])
theorem kX0_cross : tcal mX0_cross := ⟨q1158, q116, by decide, by decide⟩
abbrev mX0_distance : tM := (yX0_distance, cX0_distance, 3, some (.int), [])
theorem kX0_distance : tcal mX0_distance := ⟨q892, q116, by decide, by decide⟩
abbrev mX0_doesStep : tM := (yX0_doesStep, cX0_doesStep, 13, some (.long), [])
theorem kX0_doesStep : tcal mX0_doesStep := ⟨q1081, q116, by decide, by decide⟩
abbrev mX0_door : tM := (yX0_door, cX0_door, 9, some (.int), [])
theorem kX0_door : tcal mX0_door := ⟨q1176, q116, by decide, by decide⟩
abbrev mX0_drawn : tM := (yX0_drawn, cX0_drawn, 7, some (.boolean), [])
theorem kX0_drawn : tcal mX0_drawn := ⟨q1113, q116, by decide, by decide⟩
abbrev mX0_endRows : tM := (yX0_endRows, cX0_endRows, 7, none, [])
theorem kX0_endRows : tcal mX0_endRows := ⟨q1077, q116, by decide, by decide⟩
abbrev mX0_fault : tM := (yX0_fault, cX0_fault, 2, some (.int), [])
theorem kX0_fault : tcal mX0_fault := ⟨q863, q116, by decide, by decide⟩
abbrev mX0_feed : tM := (yX0_feed, cX0_feed, 6, some (.int), [])
theorem kX0_feed : tcal mX0_feed := ⟨q656, q116, by decide, by decide⟩
abbrev mX0_four : tM := (yX0_four, cX0_four, 3, none, [])
theorem kX0_four : tcal mX0_four := ⟨q660, q116, by decide, by decide⟩
abbrev mX0_gives : tM := (yX0_gives, cX0_gives, 2, some (.int), [])
theorem kX0_gives : tcal mX0_gives := ⟨q859, q116, by decide, by decide⟩
abbrev mX0_goRows : tM := (yX0_goRows, cX0_goRows, 7, none, [])
theorem kX0_goRows : tcal mX0_goRows := ⟨q1073, q116, by decide, by decide⟩
abbrev mX0_holds : tM := (yX0_holds, cX0_holds, 3, some (.boolean), [])
theorem kX0_holds : tcal mX0_holds := ⟨q1141, q116, by decide, by decide⟩
abbrev mX0_init : tM := (yX0_init, cX0_init, 2, none, [])
theorem kX0_init : tcal mX0_init := ⟨q146, q116, by decide, by decide⟩
abbrev mX0_is : tM := (yX0_is, cX0_is, 2, some (.boolean), [])
theorem kX0_is : tcal mX0_is := ⟨q570, q116, by decide, by decide⟩
abbrev mX0_isFrom : tM := (yX0_isFrom, cX0_isFrom, 6, some (.boolean), [])
theorem kX0_isFrom : tcal mX0_isFrom := ⟨q916, q116, by decide, by decide⟩
abbrev mX0_isGreater : tM := (yX0_isGreater, cX0_isGreater, 4, some (.boolean), [])
theorem kX0_isGreater : tcal mX0_isGreater := ⟨q1168, q116, by decide, by decide⟩
abbrev mX0_isLane : tM := (yX0_isLane, cX0_isLane, 2, some (.boolean), [])
theorem kX0_isLane : tcal mX0_isLane := ⟨q884, q116, by decide, by decide⟩
abbrev mX0_isParted : tM := (yX0_isParted, cX0_isParted, 11, some (.boolean), [])
theorem kX0_isParted : tcal mX0_isParted := ⟨q1101, q116, by decide, by decide⟩
abbrev mX0_isPlace : tM := (yX0_isPlace, cX0_isPlace, 2, some (.boolean), [])
theorem kX0_isPlace : tcal mX0_isPlace := ⟨q875, q116, by decide, by decide⟩
abbrev mX0_isTray : tM := (yX0_isTray, cX0_isTray, 1, some (.boolean), [])
theorem kX0_isTray : tcal mX0_isTray := ⟨q566, q116, by decide, by decide⟩
abbrev mX0_isTurned : tM := (yX0_isTurned, cX0_isTurned, 11, some (.boolean), [])
theorem kX0_isTurned : tcal mX0_isTurned := ⟨q1105, q116, by decide, by decide⟩
abbrev mX0_isWay : tM := (yX0_isWay, cX0_isWay, 3, some (.boolean), [])
theorem kX0_isWay : tcal mX0_isWay := ⟨q972, q116, by decide, by decide⟩
abbrev mX0_judge : tM := (yX0_judge, cX0_judge, 8, some (.int), [])
theorem kX0_judge : tcal mX0_judge := ⟨q1026, q116, by decide, by decide⟩
abbrev mX0_likely : tM := (yX0_likely, cX0_likely, 3, some (.long), [])
theorem kX0_likely : tcal mX0_likely := ⟨q1038, q116, by decide, by decide⟩
abbrev mX0_line : tM := (yX0_line, cX0_line, 6, none, [])
theorem kX0_line : tcal mX0_line := ⟨q1154, q116, by decide, by decide⟩
abbrev mX0_many : tM := (yX0_many, cX0_many, 2, some (.int), [])
theorem kX0_many : tcal mX0_many := ⟨q867, q116, by decide, by decide⟩
abbrev mX0_marks : tM := (yX0_marks, cX0_marks, 2, some (.boolean), [])
theorem kX0_marks : tcal mX0_marks := ⟨q888, q116, by decide, by decide⟩
abbrev mX0_mean : tM := (yX0_mean, cX0_mean, 5, some (.boolean), [])
theorem kX0_mean : tcal mX0_mean := ⟨q1030, q116, by decide, by decide⟩
abbrev mX0_meet : tM := (yX0_meet, cX0_meet, 11, some (.int), [])
theorem kX0_meet : tcal mX0_meet := ⟨q976, q116, by decide, by decide⟩
abbrev mX0_meets : tM := (yX0_meets, cX0_meets, 3, some (.boolean), [])
theorem kX0_meets : tcal mX0_meets := ⟨q1022, q116, by decide, by decide⟩
abbrev mX0_nearer : tM := (yX0_nearer, cX0_nearer, 4, some ((.object "TwoSeek$Place")), [])
theorem kX0_nearer : tcal mX0_nearer := ⟨q984, q116, by decide, by decide⟩
abbrev mX0_none : tM := (yX0_none, cX0_none, 2, some (.int), [])
theorem kX0_none : tcal mX0_none := ⟨q639, q116, by decide, by decide⟩
abbrev mX0_parted : tM := (yX0_parted, cX0_parted, 4, some (.int), [])
theorem kX0_parted : tcal mX0_parted := ⟨q1097, q116, by decide, by decide⟩
abbrev mX0_place : tM := (yX0_place, cX0_place, 4, some (.int), [])
theorem kX0_place : tcal mX0_place := ⟨q871, q116, by decide, by decide⟩
abbrev mX0_pour : tM := (yX0_pour, cX0_pour, 9, some (.boolean), [(80, 92, 95, 172), (80, 92, 103, 198)])
theorem kX0_pour : tcal mX0_pour := ⟨q648, q116, by decide, by decide⟩
abbrev mX0_puts : tM := (yX0_puts, cX0_puts, 4, some (.boolean), [])
theorem kX0_puts : tcal mX0_puts := ⟨q1109, q116, by decide, by decide⟩
abbrev mX0_read : tM := (yX0_read, cX0_read, 4, some (.long), [(19, 29, 30, 172), (19, 29, 39, 174)])
theorem kX0_read : tcal mX0_read := ⟨q635, q116, by decide, by decide⟩
abbrev mX0_rowOf : tM := (yX0_rowOf, cX0_rowOf, 5, some ((.array .int)), [])
theorem kX0_rowOf : tcal mX0_rowOf := ⟨q920, q116, by decide, by decide⟩
abbrev mX0_same : tM := (yX0_same, cX0_same, 6, some (.int), [])
theorem kX0_same : tcal mX0_same := ⟨q1057, q116, by decide, by decide⟩
abbrev mX0_shut : tM := (yX0_shut, cX0_shut, 3, some (.boolean), [])
theorem kX0_shut : tcal mX0_shut := ⟨q880, q116, by decide, by decide⟩
abbrev mX0_sight : tM := (yX0_sight, cX0_sight, 2, some (.int), [])
theorem kX0_sight : tcal mX0_sight := ⟨q955, q116, by decide, by decide⟩
abbrev mX0_status : tM := (yX0_status, cX0_status, 1, some (.int), [])
theorem kX0_status : tcal mX0_status := ⟨q524, q116, by decide, by decide⟩
abbrev mX0_step : tM := (yX0_step, cX0_step, 3, some (.int), [])
theorem kX0_step : tcal mX0_step := ⟨q1085, q116, by decide, by decide⟩
abbrev mX0_tell : tM := (yX0_tell, cX0_tell, 11, some (.boolean), [])
theorem kX0_tell : tcal mX0_tell := ⟨q1049, q116, by decide, by decide⟩
abbrev mX0_tellMet : tM := (yX0_tellMet, cX0_tellMet, 6, some (.boolean), [])
theorem kX0_tellMet : tcal mX0_tellMet := ⟨q1129, q116, by decide, by decide⟩
abbrev mX0_three : tM := (yX0_three, cX0_three, 10, some (.int), [])
theorem kX0_three : tcal mX0_three := ⟨q1137, q116, by decide, by decide⟩
abbrev mX0_times : tM := (yX0_times, cX0_times, 9, some (.long), [])
theorem kX0_times : tcal mX0_times := ⟨q1034, q116, by decide, by decide⟩
abbrev mX0_top : tM := (yX0_top, cX0_top, 1, some (.long), [])
theorem kX0_top : tcal mX0_top := ⟨q528, q116, by decide, by decide⟩
abbrev mX0_town : tM := (yX0_town, cX0_town, 4, some (.int), [(39, 48, 51, 15)])
theorem kX0_town : tcal mX0_town := ⟨q664, q116, by decide, by decide⟩
abbrev mX0_tray : tM := (yX0_tray, cX0_tray, 5, some (.boolean), [(34, 45, 48, 166)])
theorem kX0_tray : tcal mX0_tray := ⟨q536, q116, by decide, by decide⟩
abbrev mX0_value : tM := (yX0_value, cX0_value, 13, some (.boolean), [])
theorem kX0_value : tcal mX0_value := ⟨q1145, q116, by decide, by decide⟩
abbrev mX0_walks : tM := (yX0_walks, cX0_walks, 8, some (.int), [])
theorem kX0_walks : tcal mX0_walks := ⟨q1125, q116, by decide, by decide⟩
abbrev mX0_wander : tM := (yX0_wander, cX0_wander, 8, some (.int), [])
theorem kX0_wander : tcal mX0_wander := ⟨q1180, q116, by decide, by decide⟩
abbrev mX0_when : tM := (yX0_when, cX0_when, 6, some (.int), [])
theorem kX0_when : tcal mX0_when := ⟨q968, q116, by decide, by decide⟩
abbrev mX0_worst : tM := (yX0_worst, cX0_worst, 3, some (.int), [])
theorem kX0_worst : tcal mX0_worst := ⟨q1053, q116, by decide, by decide⟩
abbrev mX0_write : tM := (yX0_write, cX0_write, 6, some (.boolean), [(13, 24, 27, 172), (13, 24, 35, 174)])
theorem kX0_write : tcal mX0_write := ⟨q579, q116, by decide, by decide⟩
abbrev mX0_wrongDraws : tM := (yX0_wrongDraws, cX0_wrongDraws, 6, some (.int), [])
theorem kX0_wrongDraws : tcal mX0_wrongDraws := ⟨q1117, q116, by decide, by decide⟩
abbrev mX10_init : tM := (yX10_init, cX10_init, 2, none, [])
theorem kX10_init : tcal mX10_init := ⟨q928, q139, by decide, by decide⟩
abbrev mX10_step : tM := (yX10_step, cX10_step, 2, some (.int), [])
theorem kX10_step : tcal mX10_step := ⟨q990, q139, by decide, by decide⟩
abbrev mX11_goesOn : tM := (yX11_goesOn, cX11_goesOn, 2, none, [])
theorem kX11_goesOn : tcal mX11_goesOn := ⟨q1009, q140, by decide, by decide⟩
abbrev mX11_init : tM := (yX11_init, cX11_init, 2, none, [])
theorem kX11_init : tcal mX11_init := ⟨q925, q140, by decide, by decide⟩
abbrev mX12_goesOn : tM := (yX12_goesOn, cX12_goesOn, 2, none, [])
theorem kX12_goesOn : tcal mX12_goesOn := ⟨q1016, q141, by decide, by decide⟩
abbrev mX12_init : tM := (yX12_init, cX12_init, 2, none, [])
theorem kX12_init : tcal mX12_init := ⟨q961, q141, by decide, by decide⟩
abbrev mX12_step : tM := (yX12_step, cX12_step, 2, some (.int), [])
theorem kX12_step : tcal mX12_step := ⟨q994, q141, by decide, by decide⟩
abbrev mX12_told : tM := (yX12_told, cX12_told, 2, some (.int), [])
theorem kX12_told : tcal mX12_told := ⟨q998, q141, by decide, by decide⟩
abbrev mX1_init : tM := (yX1_init, cX1_init, 1, none, [])
theorem kX1_init : tcal mX1_init := ⟨q209, q120, by decide, by decide⟩
abbrev mX1_of : tM := (yX1_of, cX1_of, 3, some ((.object "TwoSeek$Wrong")), [])
theorem kX1_of : tcal mX1_of := ⟨q760, q120, by decide, by decide⟩
abbrev mX2_aLane : tM := (yX2_aLane, cX2_aLane, 4, none, [])
theorem kX2_aLane : tcal mX2_aLane := ⟨q822, q121, by decide, by decide⟩
abbrev mX2_aPlace : tM := (yX2_aPlace, cX2_aPlace, 7, none, [])
theorem kX2_aPlace : tcal mX2_aPlace := ⟨q764, q121, by decide, by decide⟩
abbrev mX2_at : tM := (yX2_at, cX2_at, 2, some (.int), [])
theorem kX2_at : tcal mX2_at := ⟨q678, q121, by decide, by decide⟩
abbrev mX2_fail : tM := (yX2_fail, cX2_fail, 2, some ((.object "TwoSeek$Wrong")), [])
theorem kX2_fail : tcal mX2_fail := ⟨q756, q121, by decide, by decide⟩
abbrev mX2_free : tM := (yX2_free, cX2_free, 3, some ((.object "TwoSeek$Place")), [])
theorem kX2_free : tcal mX2_free := ⟨q826, q121, by decide, by decide⟩
abbrev mX2_init : tM := (yX2_init, cX2_init, 2, none, [])
theorem kX2_init : tcal mX2_init := ⟨q244, q121, by decide, by decide⟩
abbrev mX2_isDigit : tM := (yX2_isDigit, cX2_isDigit, 1, some (.boolean), [])
theorem kX2_isDigit : tcal mX2_isDigit := ⟨q684, q121, by decide, by decide⟩
abbrev mX2_isSmall : tM := (yX2_isSmall, cX2_isSmall, 1, some (.boolean), [])
theorem kX2_isSmall : tcal mX2_isSmall := ⟨q681, q121, by decide, by decide⟩
abbrev mX2_isWord : tM := (yX2_isWord, cX2_isWord, 4, some (.boolean), [])
theorem kX2_isWord : tcal mX2_isWord := ⟨q748, q121, by decide, by decide⟩
abbrev mX2_key : tM := (yX2_key, cX2_key, 4, some (.int), [])
theorem kX2_key : tcal mX2_key := ⟨q695, q121, by decide, by decide⟩
abbrev mX2_name : tM := (yX2_name, cX2_name, 4, some (.long), [])
theorem kX2_name : tcal mX2_name := ⟨q768, q121, by decide, by decide⟩
abbrev mX2_need : tM := (yX2_need, cX2_need, 2, none, [])
theorem kX2_need : tcal mX2_need := ⟨q752, q121, by decide, by decide⟩
abbrev mX2_next : tM := (yX2_next, cX2_next, 2, none, [])
theorem kX2_next : tcal mX2_next := ⟨q674, q121, by decide, by decide⟩
abbrev mX2_part : tM := (yX2_part, cX2_part, 2, none, [])
theorem kX2_part : tcal mX2_part := ⟨q691, q121, by decide, by decide⟩
abbrev mX2_passed : tM := (yX2_passed, cX2_passed, 4, some (.int), [])
theorem kX2_passed : tcal mX2_passed := ⟨q818, q121, by decide, by decide⟩
abbrev mX2_read : tM := (yX2_read, cX2_read, 2, some ((.object "TwoSeek$Town")), [])
theorem kX2_read : tcal mX2_read := ⟨q668, q121, by decide, by decide⟩
abbrev mX3_begin : tM := (yX3_begin, cX3_begin, 3, none, [])
theorem kX3_begin : tcal mX3_begin := ⟨q980, q122, by decide, by decide⟩
abbrev mX3_init : tM := (yX3_init, cX3_init, 1, none, [])
theorem kX3_init : tcal mX3_init := ⟨q285, q122, by decide, by decide⟩
abbrev mX3_next : tM := (yX3_next, cX3_next, 2, some ((.object "TwoSeek$Place")), [])
theorem kX3_next : tcal mX3_next := ⟨q1002, q122, by decide, by decide⟩
abbrev mX4_init : tM := (yX4_init, cX4_init, 1, none, [])
theorem kX4_init : tcal mX4_init := ⟨q311, q123, by decide, by decide⟩
abbrev mX4_named : tM := (yX4_named, cX4_named, 4, some ((.object "TwoSeek$Place")), [])
theorem kX4_named : tcal mX4_named := ⟨q772, q123, by decide, by decide⟩
abbrev mX4_spread : tM := (yX4_spread, cX4_spread, 6, none, [])
theorem kX4_spread : tcal mX4_spread := ⟨q896, q123, by decide, by decide⟩
abbrev mX5_get : tM := (yX5_get, cX5_get, 2, some (.long), [])
theorem kX5_get : tcal mX5_get := ⟨q643, q124, by decide, by decide⟩
abbrev mX5_init : tM := (yX5_init, cX5_init, 1, none, [])
theorem kX5_init : tcal mX5_init := ⟨q363, q124, by decide, by decide⟩
abbrev mX5_make : tM := (yX5_make, cX5_make, 4, none, [])
theorem kX5_make : tcal mX5_make := ⟨q574, q124, by decide, by decide⟩
abbrev mX5_many : tM := (yX5_many, cX5_many, 1, some (.int), [])
theorem kX5_many : tcal mX5_many := ⟨q908, q124, by decide, by decide⟩
abbrev mX5_set : tM := (yX5_set, cX5_set, 4, none, [])
theorem kX5_set : tcal mX5_set := ⟨q627, q124, by decide, by decide⟩
abbrev mX6_addWay : tM := (yX6_addWay, cX6_addWay, 6, some (.int), [])
theorem kX6_addWay : tcal mX6_addWay := ⟨q1641, q125, by decide, by decide⟩
abbrev mX6_agreed : tM := (yX6_agreed, cX6_agreed, 2, some (.int), [])
theorem kX6_agreed : tcal mX6_agreed := ⟨q1728, q125, by decide, by decide⟩
abbrev mX6_alike : tM := (yX6_alike, cX6_alike, 2, some (.int), [])
theorem kX6_alike : tcal mX6_alike := ⟨q1744, q125, by decide, by decide⟩
abbrev mX6_alikeStep : tM := (yX6_alikeStep, cX6_alikeStep, 2, some (.int), [])
theorem kX6_alikeStep : tcal mX6_alikeStep := ⟨q1748, q125, by decide, by decide⟩
abbrev mX6_allLikely : tM := (yX6_allLikely, cX6_allLikely, 5, some (.long), [])
theorem kX6_allLikely : tcal mX6_allLikely := ⟨q1703, q125, by decide, by decide⟩
abbrev mX6_asksDrawn : tM := (yX6_asksDrawn, cX6_asksDrawn, 6, some (.int), [])
theorem kX6_asksDrawn : tcal mX6_asksDrawn := ⟨q1772, q125, by decide, by decide⟩
abbrev mX6_asksValue : tM := (yX6_asksValue, cX6_asksValue, 9, some (.int), [])
theorem kX6_asksValue : tcal mX6_asksValue := ⟨q1807, q125, by decide, by decide⟩
abbrev mX6_balance : tM := (yX6_balance, cX6_balance, 7, none, [])
theorem kX6_balance : tcal mX6_balance := ⟨q1837, q125, by decide, by decide⟩
abbrev mX6_begin : tM := (yX6_begin, cX6_begin, 3, none, [])
theorem kX6_begin : tcal mX6_begin := ⟨q1662, q125, by decide, by decide⟩
abbrev mX6_bestDrawn : tM := (yX6_bestDrawn, cX6_bestDrawn, 11, some (.int), [])
theorem kX6_bestDrawn : tcal mX6_bestDrawn := ⟨q1790, q125, by decide, by decide⟩
abbrev mX6_bottom : tM := (yX6_bottom, cX6_bottom, 1, some (.long), [])
theorem kX6_bottom : tcal mX6_bottom := ⟨q1439, q125, by decide, by decide⟩
abbrev mX6_byRows : tM := (yX6_byRows, cX6_byRows, 10, some (.int), [])
theorem kX6_byRows : tcal mX6_byRows := ⟨q1736, q125, by decide, by decide⟩
abbrev mX6_chance : tM := (yX6_chance, cX6_chance, 2, some (.boolean), [])
theorem kX6_chance : tcal mX6_chance := ⟨q1853, q125, by decide, by decide⟩
abbrev mX6_chosen : tM := (yX6_chosen, cX6_chosen, 3, none, [])
theorem kX6_chosen : tcal mX6_chosen := ⟨q1845, q125, by decide, by decide⟩
abbrev mX6_clock : tM := (yX6_clock, cX6_clock, 5, some (.int), [])
theorem kX6_clock : tcal mX6_clock := ⟨q1631, q125, by decide, by decide⟩
abbrev mX6_common : tM := (yX6_common, cX6_common, 10, some (.long), [])
theorem kX6_common : tcal mX6_common := ⟨q1714, q125, by decide, by decide⟩
abbrev mX6_count : tM := (yX6_count, cX6_count, 4, some (.int), [])
theorem kX6_count : tcal mX6_count := ⟨q1562, q125, by decide, by decide⟩
abbrev mX6_cut : tM := (yX6_cut, cX6_cut, 3, some (.long), [])
theorem kX6_cut : tcal mX6_cut := ⟨q1462, q125, by decide, by decide⟩
abbrev mX6_distance : tM := (yX6_distance, cX6_distance, 3, some (.int), [])
theorem kX6_distance : tcal mX6_distance := ⟨q1622, q125, by decide, by decide⟩
abbrev mX6_door : tM := (yX6_door, cX6_door, 9, some (.int), [])
theorem kX6_door : tcal mX6_door := ⟨q1857, q125, by decide, by decide⟩
abbrev mX6_drawn : tM := (yX6_drawn, cX6_drawn, 6, some (.boolean), [])
theorem kX6_drawn : tcal mX6_drawn := ⟨q1768, q125, by decide, by decide⟩
abbrev mX6_equate : tM := (yX6_equate, cX6_equate, 9, none, [])
theorem kX6_equate : tcal mX6_equate := ⟨q1833, q125, by decide, by decide⟩
abbrev mX6_fail : tM := (yX6_fail, cX6_fail, 3, none, [])
theorem kX6_fail : tcal mX6_fail := ⟨q1554, q125, by decide, by decide⟩
abbrev mX6_fault : tM := (yX6_fault, cX6_fault, 2, some (.int), [])
theorem kX6_fault : tcal mX6_fault := ⟨q1589, q125, by decide, by decide⟩
abbrev mX6_feature : tM := (yX6_feature, cX6_feature, 1, some (.int), [])
theorem kX6_feature : tcal mX6_feature := ⟨q1526, q125, by decide, by decide⟩
abbrev mX6_feed : tM := (yX6_feed, cX6_feed, 6, some (.int), [])
theorem kX6_feed : tcal mX6_feed := ⟨q1475, q125, by decide, by decide⟩
abbrev mX6_findChances : tM := (yX6_findChances, cX6_findChances, 3, none, [])
theorem kX6_findChances : tcal mX6_findChances := ⟨q1841, q125, by decide, by decide⟩
abbrev mX6_findFar : tM := (yX6_findFar, cX6_findFar, 4, none, [])
theorem kX6_findFar : tcal mX6_findFar := ⟨q1626, q125, by decide, by decide⟩
abbrev mX6_findRows : tM := (yX6_findRows, cX6_findRows, 14, none, [])
theorem kX6_findRows : tcal mX6_findRows := ⟨q1732, q125, by decide, by decide⟩
abbrev mX6_findValue : tM := (yX6_findValue, cX6_findValue, 3, none, [])
theorem kX6_findValue : tcal mX6_findValue := ⟨q1812, q125, by decide, by decide⟩
abbrev mX6_fitsTurn : tM := (yX6_fitsTurn, cX6_fitsTurn, 3, some (.boolean), [])
theorem kX6_fitsTurn : tcal mX6_fitsTurn := ⟨q1764, q125, by decide, by decide⟩
abbrev mX6_fraction : tM := (yX6_fraction, cX6_fraction, 7, none, [])
theorem kX6_fraction : tcal mX6_fraction := ⟨q1711, q125, by decide, by decide⟩
abbrev mX6_go : tM := (yX6_go, cX6_go, 3, some (.int), [])
theorem kX6_go : tcal mX6_go := ⟨q1678, q125, by decide, by decide⟩
abbrev mX6_goesBy : tM := (yX6_goesBy, cX6_goesBy, 3, some (.int), [])
theorem kX6_goesBy : tcal mX6_goesBy := ⟨q1682, q125, by decide, by decide⟩
abbrev mX6_holds : tM := (yX6_holds, cX6_holds, 3, some (.boolean), [])
theorem kX6_holds : tcal mX6_holds := ⟨q1799, q125, by decide, by decide⟩
abbrev mX6_init : tM := (yX6_init, cX6_init, 2, none, [])
theorem kX6_init : tcal mX6_init := ⟨q1188, q125, by decide, by decide⟩
abbrev mX6_isBrought : tM := (yX6_isBrought, cX6_isBrought, 9, some (.boolean), [])
theorem kX6_isBrought : tcal mX6_isBrought := ⟨q1756, q125, by decide, by decide⟩
abbrev mX6_isCorner : tM := (yX6_isCorner, cX6_isCorner, 9, some (.boolean), [])
theorem kX6_isCorner : tcal mX6_isCorner := ⟨q1820, q125, by decide, by decide⟩
abbrev mX6_isCross : tM := (yX6_isCross, cX6_isCross, 1, some (.boolean), [])
theorem kX6_isCross : tcal mX6_isCross := ⟨q1538, q125, by decide, by decide⟩
abbrev mX6_isDigit : tM := (yX6_isDigit, cX6_isDigit, 1, some (.boolean), [])
theorem kX6_isDigit : tcal mX6_isDigit := ⟨q1503, q125, by decide, by decide⟩
abbrev mX6_isHears : tM := (yX6_isHears, cX6_isHears, 1, some (.boolean), [])
theorem kX6_isHears : tcal mX6_isHears := ⟨q1546, q125, by decide, by decide⟩
abbrev mX6_isIn : tM := (yX6_isIn, cX6_isIn, 6, some (.boolean), [])
theorem kX6_isIn : tcal mX6_isIn := ⟨q1565, q125, by decide, by decide⟩
abbrev mX6_isLane : tM := (yX6_isLane, cX6_isLane, 1, some (.boolean), [])
theorem kX6_isLane : tcal mX6_isLane := ⟨q1530, q125, by decide, by decide⟩
abbrev mX6_isLetter : tM := (yX6_isLetter, cX6_isLetter, 1, some (.boolean), [])
theorem kX6_isLetter : tcal mX6_isLetter := ⟨q1498, q125, by decide, by decide⟩
abbrev mX6_isName : tM := (yX6_isName, cX6_isName, 1, some (.boolean), [])
theorem kX6_isName : tcal mX6_isName := ⟨q1522, q125, by decide, by decide⟩
abbrev mX6_isOpen : tM := (yX6_isOpen, cX6_isOpen, 3, some (.boolean), [])
theorem kX6_isOpen : tcal mX6_isOpen := ⟨q1670, q125, by decide, by decide⟩
abbrev mX6_isPlace : tM := (yX6_isPlace, cX6_isPlace, 2, some (.boolean), [])
theorem kX6_isPlace : tcal mX6_isPlace := ⟨q1601, q125, by decide, by decide⟩
abbrev mX6_isPlaceWord : tM := (yX6_isPlaceWord, cX6_isPlaceWord, 1, some (.boolean), [])
theorem kX6_isPlaceWord : tcal mX6_isPlaceWord := ⟨q1507, q125, by decide, by decide⟩
abbrev mX6_isSet : tM := (yX6_isSet, cX6_isSet, 5, some (.boolean), [])
theorem kX6_isSet : tcal mX6_isSet := ⟨q1829, q125, by decide, by decide⟩
abbrev mX6_isSlow : tM := (yX6_isSlow, cX6_isSlow, 1, some (.boolean), [])
theorem kX6_isSlow : tcal mX6_isSlow := ⟨q1542, q125, by decide, by decide⟩
abbrev mX6_isTight : tM := (yX6_isTight, cX6_isTight, 3, some (.boolean), [])
theorem kX6_isTight : tcal mX6_isTight := ⟨q1849, q125, by decide, by decide⟩
abbrev mX6_isTo : tM := (yX6_isTo, cX6_isTo, 1, some (.boolean), [])
theorem kX6_isTo : tcal mX6_isTo := ⟨q1534, q125, by decide, by decide⟩
abbrev mX6_isWay : tM := (yX6_isWay, cX6_isWay, 2, some (.boolean), [])
theorem kX6_isWay : tcal mX6_isWay := ⟨q1654, q125, by decide, by decide⟩
abbrev mX6_isWord : tM := (yX6_isWord, cX6_isWord, 3, some (.boolean), [])
theorem kX6_isWord : tcal mX6_isWord := ⟨q1514, q125, by decide, by decide⟩
abbrev mX6_judge : tM := (yX6_judge, cX6_judge, 6, some (.int), [])
theorem kX6_judge : tcal mX6_judge := ⟨q1690, q125, by decide, by decide⟩
abbrev mX6_lay : tM := (yX6_lay, cX6_lay, 3, none, [])
theorem kX6_lay : tcal mX6_lay := ⟨q1479, q125, by decide, by decide⟩
abbrev mX6_leads : tM := (yX6_leads, cX6_leads, 3, some (.int), [])
theorem kX6_leads : tcal mX6_leads := ⟨q1606, q125, by decide, by decide⟩
abbrev mX6_likely : tM := (yX6_likely, cX6_likely, 3, some (.long), [])
theorem kX6_likely : tcal mX6_likely := ⟨q1707, q125, by decide, by decide⟩
abbrev mX6_look : tM := (yX6_look, cX6_look, 2, some (.int), [])
theorem kX6_look : tcal mX6_look := ⟨q1495, q125, by decide, by decide⟩
abbrev mX6_many : tM := (yX6_many, cX6_many, 2, some (.int), [])
theorem kX6_many : tcal mX6_many := ⟨q1593, q125, by decide, by decide⟩
abbrev mX6_marks : tM := (yX6_marks, cX6_marks, 2, some (.boolean), [])
theorem kX6_marks : tcal mX6_marks := ⟨q1618, q125, by decide, by decide⟩
abbrev mX6_mean : tM := (yX6_mean, cX6_mean, 5, some (.boolean), [])
theorem kX6_mean : tcal mX6_mean := ⟨q1695, q125, by decide, by decide⟩
abbrev mX6_meets : tM := (yX6_meets, cX6_meets, 5, some (.boolean), [])
theorem kX6_meets : tcal mX6_meets := ⟨q1686, q125, by decide, by decide⟩
abbrev mX6_metOf : tM := (yX6_metOf, cX6_metOf, 14, some (.long), [])
theorem kX6_metOf : tcal mX6_metOf := ⟨q1777, q125, by decide, by decide⟩
abbrev mX6_mostOf : tM := (yX6_mostOf, cX6_mostOf, 7, some (.long), [])
theorem kX6_mostOf : tcal mX6_mostOf := ⟨q1824, q125, by decide, by decide⟩
abbrev mX6_must : tM := (yX6_must, cX6_must, 2, none, [])
theorem kX6_must : tcal mX6_must := ⟨q1569, q125, by decide, by decide⟩
abbrev mX6_named : tM := (yX6_named, cX6_named, 2, some (.int), [])
theorem kX6_named : tcal mX6_named := ⟨q1558, q125, by decide, by decide⟩
abbrev mX6_nearer : tM := (yX6_nearer, cX6_nearer, 3, some (.int), [])
theorem kX6_nearer : tcal mX6_nearer := ⟨q1666, q125, by decide, by decide⟩
abbrev mX6_next : tM := (yX6_next, cX6_next, 2, none, [])
theorem kX6_next : tcal mX6_next := ⟨q1491, q125, by decide, by decide⟩
abbrev mX6_no : tM := (yX6_no, cX6_no, 2, some (.boolean), [])
theorem kX6_no : tcal mX6_no := ⟨q1447, q125, by decide, by decide⟩
abbrev mX6_numberOf : tM := (yX6_numberOf, cX6_numberOf, 3, some (.long), [])
theorem kX6_numberOf : tcal mX6_numberOf := ⟨q1636, q125, by decide, by decide⟩
abbrev mX6_over : tM := (yX6_over, cX6_over, 3, some (.int), [])
theorem kX6_over : tcal mX6_over := ⟨q1610, q125, by decide, by decide⟩
abbrev mX6_parted : tM := (yX6_parted, cX6_parted, 5, some (.int), [])
theorem kX6_parted : tcal mX6_parted := ⟨q1752, q125, by decide, by decide⟩
abbrev mX6_place : tM := (yX6_place, cX6_place, 3, some (.int), [])
theorem kX6_place : tcal mX6_place := ⟨q1597, q125, by decide, by decide⟩
abbrev mX6_placed : tM := (yX6_placed, cX6_placed, 4, some (.int), [])
theorem kX6_placed : tcal mX6_placed := ⟨q1455, q125, by decide, by decide⟩
abbrev mX6_play : tM := (yX6_play, cX6_play, 9, some (.int), [])
theorem kX6_play : tcal mX6_play := ⟨q1782, q125, by decide, by decide⟩
abbrev mX6_pour : tM := (yX6_pour, cX6_pour, 9, some (.boolean), [])
theorem kX6_pour : tcal mX6_pour := ⟨q1471, q125, by decide, by decide⟩
abbrev mX6_read : tM := (yX6_read, cX6_read, 3, some (.long), [])
theorem kX6_read : tcal mX6_read := ⟨q1466, q125, by decide, by decide⟩
abbrev mX6_readLane : tM := (yX6_readLane, cX6_readLane, 4, none, [])
theorem kX6_readLane : tcal mX6_readLane := ⟨q1573, q125, by decide, by decide⟩
abbrev mX6_readPlace : tM := (yX6_readPlace, cX6_readPlace, 4, none, [])
theorem kX6_readPlace : tcal mX6_readPlace := ⟨q1518, q125, by decide, by decide⟩
abbrev mX6_readRest : tM := (yX6_readRest, cX6_readRest, 3, none, [])
theorem kX6_readRest : tcal mX6_readRest := ⟨q1581, q125, by decide, by decide⟩
abbrev mX6_refuse : tM := (yX6_refuse, cX6_refuse, 2, some (.int), [])
theorem kX6_refuse : tcal mX6_refuse := ⟨q1487, q125, by decide, by decide⟩
abbrev mX6_same : tM := (yX6_same, cX6_same, 8, some (.int), [])
theorem kX6_same : tcal mX6_same := ⟨q1724, q125, by decide, by decide⟩
abbrev mX6_shut : tM := (yX6_shut, cX6_shut, 3, some (.boolean), [])
theorem kX6_shut : tcal mX6_shut := ⟨q1614, q125, by decide, by decide⟩
abbrev mX6_sight : tM := (yX6_sight, cX6_sight, 3, some (.int), [])
theorem kX6_sight : tcal mX6_sight := ⟨q1645, q125, by decide, by decide⟩
abbrev mX6_spelled : tM := (yX6_spelled, cX6_spelled, 8, some (.long), [])
theorem kX6_spelled : tcal mX6_spelled := ⟨q1510, q125, by decide, by decide⟩
abbrev mX6_status : tM := (yX6_status, cX6_status, 1, some (.int), [])
theorem kX6_status : tcal mX6_status := ⟨q1431, q125, by decide, by decide⟩
abbrev mX6_step : tM := (yX6_step, cX6_step, 3, some (.int), [])
theorem kX6_step : tcal mX6_step := ⟨q1740, q125, by decide, by decide⟩
abbrev mX6_stepOf : tM := (yX6_stepOf, cX6_stepOf, 6, some (.int), [])
theorem kX6_stepOf : tcal mX6_stepOf := ⟨q1674, q125, by decide, by decide⟩
abbrev mX6_sumOf : tM := (yX6_sumOf, cX6_sumOf, 8, some (.long), [])
theorem kX6_sumOf : tcal mX6_sumOf := ⟨q1699, q125, by decide, by decide⟩
abbrev mX6_taken : tM := (yX6_taken, cX6_taken, 2, some (.int), [])
theorem kX6_taken : tcal mX6_taken := ⟨q1585, q125, by decide, by decide⟩
abbrev mX6_three : tM := (yX6_three, cX6_three, 7, some (.int), [])
theorem kX6_three : tcal mX6_three := ⟨q1794, q125, by decide, by decide⟩
abbrev mX6_told : tM := (yX6_told, cX6_told, 1, some (.int), [])
theorem kX6_told : tcal mX6_told := ⟨q1577, q125, by decide, by decide⟩
abbrev mX6_top : tM := (yX6_top, cX6_top, 1, some (.long), [])
theorem kX6_top : tcal mX6_top := ⟨q1435, q125, by decide, by decide⟩
abbrev mX6_town : tM := (yX6_town, cX6_town, 2, some (.int), [])
theorem kX6_town : tcal mX6_town := ⟨q1483, q125, by decide, by decide⟩
abbrev mX6_tray : tM := (yX6_tray, cX6_tray, 5, some (.boolean), [])
theorem kX6_tray : tcal mX6_tray := ⟨q1443, q125, by decide, by decide⟩
abbrev mX6_trayed : tM := (yX6_trayed, cX6_trayed, 2, some (.int), [])
theorem kX6_trayed : tcal mX6_trayed := ⟨q1459, q125, by decide, by decide⟩
abbrev mX6_turns : tM := (yX6_turns, cX6_turns, 4, some (.boolean), [])
theorem kX6_turns : tcal mX6_turns := ⟨q1760, q125, by decide, by decide⟩
abbrev mX6_value : tM := (yX6_value, cX6_value, 11, some (.boolean), [])
theorem kX6_value : tcal mX6_value := ⟨q1803, q125, by decide, by decide⟩
abbrev mX6_valued : tM := (yX6_valued, cX6_valued, 5, none, [])
theorem kX6_valued : tcal mX6_valued := ⟨q1816, q125, by decide, by decide⟩
abbrev mX6_walk : tM := (yX6_walk, cX6_walk, 10, some (.int), [])
theorem kX6_walk : tcal mX6_walk := ⟨q1658, q125, by decide, by decide⟩
abbrev mX6_wander : tM := (yX6_wander, cX6_wander, 11, some (.int), [])
theorem kX6_wander : tcal mX6_wander := ⟨q1861, q125, by decide, by decide⟩
abbrev mX6_when : tM := (yX6_when, cX6_when, 6, some (.int), [])
theorem kX6_when : tcal mX6_when := ⟨q1650, q125, by decide, by decide⟩
abbrev mX6_wholeOf : tM := (yX6_wholeOf, cX6_wholeOf, 5, some (.long), [])
theorem kX6_wholeOf : tcal mX6_wholeOf := ⟨q1786, q125, by decide, by decide⟩
abbrev mX6_worst : tM := (yX6_worst, cX6_worst, 6, some (.int), [])
theorem kX6_worst : tcal mX6_worst := ⟨q1719, q125, by decide, by decide⟩
abbrev mX6_write : tM := (yX6_write, cX6_write, 5, some (.boolean), [])
theorem kX6_write : tcal mX6_write := ⟨q1451, q125, by decide, by decide⟩
abbrev mX6_wrong : tM := (yX6_wrong, cX6_wrong, 1, none, [])
theorem kX6_wrong : tcal mX6_wrong := ⟨q1550, q125, by decide, by decide⟩
abbrev mX7_add : tM := (yX7_add, cX7_add, 2, none, [])
theorem kX7_add : tcal mX7_add := ⟨q855, q136, by decide, by decide⟩
abbrev mX7_by : tM := (yX7_by, cX7_by, 2, some ((.object "TwoSeek$Place")), [])
theorem kX7_by : tcal mX7_by := ⟨q900, q136, by decide, by decide⟩
abbrev mX7_init : tM := (yX7_init, cX7_init, 4, none, [])
theorem kX7_init : tcal mX7_init := ⟨q777, q136, by decide, by decide⟩
abbrev mX7_leads : tM := (yX7_leads, cX7_leads, 3, some (.boolean), [])
theorem kX7_leads : tcal mX7_leads := ⟨q830, q136, by decide, by decide⟩
abbrev mX8_init : tM := (yX8_init, cX8_init, 3, none, [])
theorem kX8_init : tcal mX8_init := ⟨q839, q137, by decide, by decide⟩
abbrev mX8_other : tM := (yX8_other, cX8_other, 2, some ((.object "TwoSeek$Place")), [])
theorem kX8_other : tcal mX8_other := ⟨q834, q137, by decide, by decide⟩
abbrev mX9_goesOn : tM := (yX9_goesOn, cX9_goesOn, 2, none, [])
theorem kX9_goesOn : tcal mX9_goesOn := ⟨q1018, q138, by decide, by decide⟩
abbrev mX9_init : tM := (yX9_init, cX9_init, 2, none, [])
theorem kX9_init : tcal mX9_init := ⟨q931, q138, by decide, by decide⟩
theorem fX0_11 : tfl RX0 11 0 0 2 true := ⟨RX0, TX0, 48, "TwoSeek", 0, rfl, ck0, by decide, rfl, rfl, by decide, rfl, Or.inl rfl, Or.inl q376⟩
theorem fX0_11F : tflF RX0 11 0 0 2 := ⟨RX0, TX0, 48, 0, rfl, ck0, by decide, rfl, rfl, by decide, rfl, rfl, q376⟩
theorem fX0_18 : tfl RX0 18 0 1 2 true := ⟨RX0, TX0, 48, "TwoSeek", 1, rfl, ck0, by decide, rfl, rfl, by decide, rfl, Or.inl rfl, Or.inl q377⟩
theorem fX0_18F : tflF RX0 18 0 1 2 := ⟨RX0, TX0, 48, 1, rfl, ck0, by decide, rfl, rfl, by decide, rfl, rfl, q377⟩
theorem fX0_27 : tfl RX0 27 0 2 2 true := ⟨RX0, TX0, 48, "TwoSeek", 2, rfl, ck0, by decide, rfl, rfl, by decide, rfl, Or.inl rfl, Or.inl q378⟩
theorem fX0_27F : tflF RX0 27 0 2 2 := ⟨RX0, TX0, 48, 2, rfl, ck0, by decide, rfl, rfl, by decide, rfl, rfl, q378⟩
theorem fX0_33 : tfl RX0 33 0 3 2 true := ⟨RX0, TX0, 48, "TwoSeek", 3, rfl, ck0, by decide, rfl, rfl, by decide, rfl, Or.inl rfl, Or.inl q379⟩
theorem fX0_33F : tflF RX0 33 0 3 2 := ⟨RX0, TX0, 48, 3, rfl, ck0, by decide, rfl, rfl, by decide, rfl, rfl, q379⟩
theorem fX0_40 : tfl RX0 40 0 4 2 true := ⟨RX0, TX0, 48, "TwoSeek", 4, rfl, ck0, by decide, rfl, rfl, by decide, rfl, Or.inl rfl, Or.inl q380⟩
theorem fX0_40F : tflF RX0 40 0 4 2 := ⟨RX0, TX0, 48, 4, rfl, ck0, by decide, rfl, rfl, by decide, rfl, rfl, q380⟩
theorem fX0_44 : tfl RX0 44 0 5 2 true := ⟨RX0, TX0, 48, "TwoSeek", 5, rfl, ck0, by decide, rfl, rfl, by decide, rfl, Or.inl rfl, Or.inl q381⟩
theorem fX0_44F : tflF RX0 44 0 5 2 := ⟨RX0, TX0, 48, 5, rfl, ck0, by decide, rfl, rfl, by decide, rfl, rfl, q381⟩
theorem fX0_47 : tfl RX0 47 0 6 2 true := ⟨RX0, TX0, 48, "TwoSeek", 6, rfl, ck0, by decide, rfl, rfl, by decide, rfl, Or.inl rfl, Or.inl q382⟩
theorem fX0_47F : tflF RX0 47 0 6 2 := ⟨RX0, TX0, 48, 6, rfl, ck0, by decide, rfl, rfl, by decide, rfl, rfl, q382⟩
theorem fX0_50 : tfl RX0 50 0 7 2 true := ⟨RX0, TX0, 48, "TwoSeek", 7, rfl, ck0, by decide, rfl, rfl, by decide, rfl, Or.inl rfl, Or.inl q383⟩
theorem fX0_50F : tflF RX0 50 0 7 2 := ⟨RX0, TX0, 48, 7, rfl, ck0, by decide, rfl, rfl, by decide, rfl, rfl, q383⟩
theorem fX0_57 : tfl RX0 57 0 8 2 false := ⟨RX0, TX0, 48, "TwoSeek", 8, rfl, ck0, by decide, rfl, rfl, by decide, rfl, Or.inl rfl, Or.inl q384⟩
theorem fX0_61 : tfl RX0 61 0 11 0 false := ⟨RX0, TX0, 48, "TwoSeek", 11, rfl, ck0, by decide, rfl, rfl, by decide, rfl, Or.inl rfl, Or.inl q387⟩
theorem fX0_65 : tfl RX0 65 0 12 0 false := ⟨RX0, TX0, 48, "TwoSeek", 12, rfl, ck0, by decide, rfl, rfl, by decide, rfl, Or.inl rfl, Or.inl q388⟩
theorem fX0_68 : tfl RX0 68 0 15 1 false := ⟨RX0, TX0, 48, "TwoSeek", 15, rfl, ck0, by decide, rfl, rfl, by decide, rfl, Or.inl rfl, Or.inl q391⟩
theorem fX0_72 : tfl RX0 72 0 17 2 true := ⟨RX0, TX0, 48, "TwoSeek", 17, rfl, ck0, by decide, rfl, rfl, by decide, rfl, Or.inl rfl, Or.inl q393⟩
theorem fX0_72F : tflF RX0 72 0 17 2 := ⟨RX0, TX0, 48, 17, rfl, ck0, by decide, rfl, rfl, by decide, rfl, rfl, q393⟩
theorem fX0_75 : tfl RX0 75 0 18 2 true := ⟨RX0, TX0, 48, "TwoSeek", 18, rfl, ck0, by decide, rfl, rfl, by decide, rfl, Or.inl rfl, Or.inl q394⟩
theorem fX0_75F : tflF RX0 75 0 18 2 := ⟨RX0, TX0, 48, 18, rfl, ck0, by decide, rfl, rfl, by decide, rfl, rfl, q394⟩
theorem fX0_80 : tfl RX0 80 0 19 2 true := ⟨RX0, TX0, 48, "TwoSeek", 19, rfl, ck0, by decide, rfl, rfl, by decide, rfl, Or.inl rfl, Or.inl q395⟩
theorem fX0_80F : tflF RX0 80 0 19 2 := ⟨RX0, TX0, 48, 19, rfl, ck0, by decide, rfl, rfl, by decide, rfl, rfl, q395⟩
theorem fX0_83 : tfl RX0 83 0 20 2 true := ⟨RX0, TX0, 48, "TwoSeek", 20, rfl, ck0, by decide, rfl, rfl, by decide, rfl, Or.inl rfl, Or.inl q396⟩
theorem fX0_83F : tflF RX0 83 0 20 2 := ⟨RX0, TX0, 48, 20, rfl, ck0, by decide, rfl, rfl, by decide, rfl, rfl, q396⟩
theorem fX0_86 : tfl RX0 86 0 21 2 true := ⟨RX0, TX0, 48, "TwoSeek", 21, rfl, ck0, by decide, rfl, rfl, by decide, rfl, Or.inl rfl, Or.inl q397⟩
theorem fX0_86F : tflF RX0 86 0 21 2 := ⟨RX0, TX0, 48, 21, rfl, ck0, by decide, rfl, rfl, by decide, rfl, rfl, q397⟩
theorem fX0_89 : tfl RX0 89 0 22 2 true := ⟨RX0, TX0, 48, "TwoSeek", 22, rfl, ck0, by decide, rfl, rfl, by decide, rfl, Or.inl rfl, Or.inl q398⟩
theorem fX0_89F : tflF RX0 89 0 22 2 := ⟨RX0, TX0, 48, 22, rfl, ck0, by decide, rfl, rfl, by decide, rfl, rfl, q398⟩
theorem fX0_92 : tfl RX0 92 0 23 2 true := ⟨RX0, TX0, 48, "TwoSeek", 23, rfl, ck0, by decide, rfl, rfl, by decide, rfl, Or.inl rfl, Or.inl q399⟩
theorem fX0_92F : tflF RX0 92 0 23 2 := ⟨RX0, TX0, 48, 23, rfl, ck0, by decide, rfl, rfl, by decide, rfl, rfl, q399⟩
theorem fX0_95 : tfl RX0 95 0 24 2 true := ⟨RX0, TX0, 48, "TwoSeek", 24, rfl, ck0, by decide, rfl, rfl, by decide, rfl, Or.inl rfl, Or.inl q400⟩
theorem fX0_95F : tflF RX0 95 0 24 2 := ⟨RX0, TX0, 48, 24, rfl, ck0, by decide, rfl, rfl, by decide, rfl, rfl, q400⟩
theorem fX0_98 : tfl RX0 98 0 25 2 true := ⟨RX0, TX0, 48, "TwoSeek", 25, rfl, ck0, by decide, rfl, rfl, by decide, rfl, Or.inl rfl, Or.inl q401⟩
theorem fX0_98F : tflF RX0 98 0 25 2 := ⟨RX0, TX0, 48, 25, rfl, ck0, by decide, rfl, rfl, by decide, rfl, rfl, q401⟩
theorem fX0_101 : tfl RX0 101 0 26 2 true := ⟨RX0, TX0, 48, "TwoSeek", 26, rfl, ck0, by decide, rfl, rfl, by decide, rfl, Or.inl rfl, Or.inl q402⟩
theorem fX0_101F : tflF RX0 101 0 26 2 := ⟨RX0, TX0, 48, 26, rfl, ck0, by decide, rfl, rfl, by decide, rfl, rfl, q402⟩
theorem fX0_104 : tfl RX0 104 0 32 2 true := ⟨RX0, TX0, 48, "TwoSeek", 32, rfl, ck0, by decide, rfl, rfl, by decide, rfl, Or.inl rfl, Or.inl q408⟩
theorem fX0_104F : tflF RX0 104 0 32 2 := ⟨RX0, TX0, 48, 32, rfl, ck0, by decide, rfl, rfl, by decide, rfl, rfl, q408⟩
theorem fX0_108 : tfl RX0 108 0 33 2 true := ⟨RX0, TX0, 48, "TwoSeek", 33, rfl, ck0, by decide, rfl, rfl, by decide, rfl, Or.inl rfl, Or.inl q409⟩
theorem fX0_108F : tflF RX0 108 0 33 2 := ⟨RX0, TX0, 48, 33, rfl, ck0, by decide, rfl, rfl, by decide, rfl, rfl, q409⟩
theorem fX0_111 : tfl RX0 111 0 34 2 true := ⟨RX0, TX0, 48, "TwoSeek", 34, rfl, ck0, by decide, rfl, rfl, by decide, rfl, Or.inl rfl, Or.inl q410⟩
theorem fX0_111F : tflF RX0 111 0 34 2 := ⟨RX0, TX0, 48, 34, rfl, ck0, by decide, rfl, rfl, by decide, rfl, rfl, q410⟩
theorem fX0_114 : tfl RX0 114 0 35 2 true := ⟨RX0, TX0, 48, "TwoSeek", 35, rfl, ck0, by decide, rfl, rfl, by decide, rfl, Or.inl rfl, Or.inl q411⟩
theorem fX0_114F : tflF RX0 114 0 35 2 := ⟨RX0, TX0, 48, 35, rfl, ck0, by decide, rfl, rfl, by decide, rfl, rfl, q411⟩
theorem fX0_118 : tfl RX0 118 0 36 2 true := ⟨RX0, TX0, 48, "TwoSeek", 36, rfl, ck0, by decide, rfl, rfl, by decide, rfl, Or.inl rfl, Or.inl q412⟩
theorem fX0_118F : tflF RX0 118 0 36 2 := ⟨RX0, TX0, 48, 36, rfl, ck0, by decide, rfl, rfl, by decide, rfl, rfl, q412⟩
theorem fX0_121 : tfl RX0 121 0 37 2 true := ⟨RX0, TX0, 48, "TwoSeek", 37, rfl, ck0, by decide, rfl, rfl, by decide, rfl, Or.inl rfl, Or.inl q413⟩
theorem fX0_121F : tflF RX0 121 0 37 2 := ⟨RX0, TX0, 48, 37, rfl, ck0, by decide, rfl, rfl, by decide, rfl, rfl, q413⟩
theorem fX0_125 : tfl RX0 125 0 38 2 true := ⟨RX0, TX0, 48, "TwoSeek", 38, rfl, ck0, by decide, rfl, rfl, by decide, rfl, Or.inl rfl, Or.inl q414⟩
theorem fX0_125F : tflF RX0 125 0 38 2 := ⟨RX0, TX0, 48, 38, rfl, ck0, by decide, rfl, rfl, by decide, rfl, rfl, q414⟩
theorem fX0_130 : tfl RX0 130 0 39 2 true := ⟨RX0, TX0, 48, "TwoSeek", 39, rfl, ck0, by decide, rfl, rfl, by decide, rfl, Or.inl rfl, Or.inl q415⟩
theorem fX0_130F : tflF RX0 130 0 39 2 := ⟨RX0, TX0, 48, 39, rfl, ck0, by decide, rfl, rfl, by decide, rfl, rfl, q415⟩
theorem fX0_133 : tfl RX0 133 0 40 2 true := ⟨RX0, TX0, 48, "TwoSeek", 40, rfl, ck0, by decide, rfl, rfl, by decide, rfl, Or.inl rfl, Or.inl q416⟩
theorem fX0_133F : tflF RX0 133 0 40 2 := ⟨RX0, TX0, 48, 40, rfl, ck0, by decide, rfl, rfl, by decide, rfl, rfl, q416⟩
theorem fX0_136 : tfl RX0 136 0 41 2 true := ⟨RX0, TX0, 48, "TwoSeek", 41, rfl, ck0, by decide, rfl, rfl, by decide, rfl, Or.inl rfl, Or.inl q417⟩
theorem fX0_136F : tflF RX0 136 0 41 2 := ⟨RX0, TX0, 48, 41, rfl, ck0, by decide, rfl, rfl, by decide, rfl, rfl, q417⟩
theorem fX0_139 : tfl RX0 139 0 42 2 true := ⟨RX0, TX0, 48, "TwoSeek", 42, rfl, ck0, by decide, rfl, rfl, by decide, rfl, Or.inl rfl, Or.inl q418⟩
theorem fX0_139F : tflF RX0 139 0 42 2 := ⟨RX0, TX0, 48, 42, rfl, ck0, by decide, rfl, rfl, by decide, rfl, rfl, q418⟩
theorem fX0_142 : tfl RX0 142 0 43 2 true := ⟨RX0, TX0, 48, "TwoSeek", 43, rfl, ck0, by decide, rfl, rfl, by decide, rfl, Or.inl rfl, Or.inl q419⟩
theorem fX0_142F : tflF RX0 142 0 43 2 := ⟨RX0, TX0, 48, 43, rfl, ck0, by decide, rfl, rfl, by decide, rfl, rfl, q419⟩
theorem fX0_145 : tfl RX0 145 0 44 2 true := ⟨RX0, TX0, 48, "TwoSeek", 44, rfl, ck0, by decide, rfl, rfl, by decide, rfl, Or.inl rfl, Or.inl q420⟩
theorem fX0_145F : tflF RX0 145 0 44 2 := ⟨RX0, TX0, 48, 44, rfl, ck0, by decide, rfl, rfl, by decide, rfl, rfl, q420⟩
theorem fX0_149 : tfl RX0 149 0 10 0 false := ⟨RX0, TX0, 48, "TwoSeek", 10, rfl, ck0, by decide, rfl, rfl, by decide, rfl, Or.inl rfl, Or.inl q386⟩
theorem fX0_152 : tfl RX0 152 0 14 1 false := ⟨RX0, TX0, 48, "TwoSeek", 14, rfl, ck0, by decide, rfl, rfl, by decide, rfl, Or.inl rfl, Or.inl q390⟩
theorem fX0_186 : tfl RX0 186 5 0 2 false := ⟨RX5, TX5, 2, "TwoSeek$Tray", 0, rfl, ck5, by decide, rfl, rfl, by decide, rfl, Or.inl rfl, Or.inr ⟨_, q366⟩⟩
theorem fX0_190 : tfl RX0 190 5 1 0 false := ⟨RX5, TX5, 2, "TwoSeek$Tray", 1, rfl, ck5, by decide, rfl, rfl, by decide, rfl, Or.inl rfl, Or.inr ⟨_, q368⟩⟩
theorem fX0_200 : tfl RX0 200 4 2 0 false := ⟨RX4, TX4, 8, "TwoSeek$Town", 2, rfl, ck4, by decide, rfl, rfl, by decide, rfl, Or.inl rfl, Or.inr ⟨_, q325⟩⟩
theorem fX0_203 : tfl RX0 203 4 3 0 false := ⟨RX4, TX4, 8, "TwoSeek$Town", 3, rfl, ck4, by decide, rfl, rfl, by decide, rfl, Or.inl rfl, Or.inr ⟨_, q327⟩⟩
theorem fX0_206 : tfl RX0 206 0 9 0 false := ⟨RX0, TX0, 48, "TwoSeek", 9, rfl, ck0, by decide, rfl, rfl, by decide, rfl, Or.inl rfl, Or.inl q385⟩
theorem fX0_209 : tfl RX0 209 2 1 0 false := ⟨RX2, TX2, 10, "TwoSeek$Reader", 1, rfl, ck2, by decide, rfl, rfl, by decide, rfl, Or.inl rfl, Or.inr ⟨_, q248⟩⟩
theorem fX0_216 : tfl RX0 216 2 0 2 true := ⟨RX2, TX2, 10, "TwoSeek$Reader", 0, rfl, ck2, by decide, rfl, rfl, by decide, rfl, Or.inl rfl, Or.inr ⟨_, q247⟩⟩
theorem fX0_224 : tfl RX0 224 1 6 0 false := ⟨RX1, TX1, 8, "TwoSeek$Wrong", 6, rfl, ck1, by decide, rfl, rfl, by decide, rfl, Or.inl rfl, Or.inr ⟨_, q220⟩⟩
theorem fX0_227 : tfl RX0 227 1 7 0 false := ⟨RX1, TX1, 8, "TwoSeek$Wrong", 7, rfl, ck1, by decide, rfl, rfl, by decide, rfl, Or.inl rfl, Or.inr ⟨_, q222⟩⟩
theorem fX0_230 : tfl RX0 230 0 13 5 false := ⟨RX0, TX0, 48, "TwoSeek", 13, rfl, ck0, by decide, rfl, rfl, by decide, rfl, Or.inl rfl, Or.inl q389⟩
theorem fX0_240 : tfl RX0 240 4 0 2 true := ⟨RX4, TX4, 8, "TwoSeek$Town", 0, rfl, ck4, by decide, rfl, rfl, by decide, rfl, Or.inl rfl, Or.inr ⟨_, q319⟩⟩
theorem fX0_244 : tfl RX0 244 7 2 0 false := ⟨RX7, TX7, 7, "TwoSeek$Place", 2, rfl, ck7, by decide, rfl, rfl, by decide, rfl, Or.inl rfl, Or.inr ⟨_, q787⟩⟩
theorem fX0_249 : tfl RX0 249 7 5 0 false := ⟨RX7, TX7, 7, "TwoSeek$Place", 5, rfl, ck7, by decide, rfl, rfl, by decide, rfl, Or.inl rfl, Or.inr ⟨_, q797⟩⟩
theorem fX0_250 : tfl RX0 250 7 6 2 true := ⟨RX7, TX7, 7, "TwoSeek$Place", 6, rfl, ck7, by decide, rfl, rfl, by decide, rfl, Or.inl rfl, Or.inr ⟨_, q799⟩⟩
theorem fX0_260 : tfl RX0 260 7 1 0 true := ⟨RX7, TX7, 7, "TwoSeek$Place", 1, rfl, ck7, by decide, rfl, rfl, by decide, rfl, Or.inl rfl, Or.inl q784⟩
theorem fX0_266 : tfl RX0 266 4 1 2 true := ⟨RX4, TX4, 8, "TwoSeek$Town", 1, rfl, ck4, by decide, rfl, rfl, by decide, rfl, Or.inl rfl, Or.inr ⟨_, q322⟩⟩
theorem fX0_267 : tfl RX0 267 8 2 5 false := ⟨RX8, TX8, 3, "TwoSeek$Lane", 2, rfl, ck8, by decide, rfl, rfl, by decide, rfl, Or.inl rfl, Or.inr ⟨_, q844⟩⟩
theorem fX0_274 : tfl RX0 274 4 7 2 true := ⟨RX4, TX4, 8, "TwoSeek$Town", 7, rfl, ck4, by decide, rfl, rfl, by decide, rfl, Or.inl rfl, Or.inr ⟨_, q336⟩⟩
theorem fX0_311 : tfl RX0 311 3 1 2 false := ⟨RX3, TX3, 4, "TwoSeek$Walker", 1, rfl, ck3, by decide, rfl, rfl, by decide, rfl, Or.inl rfl, Or.inr ⟨_, q291⟩⟩
theorem fX0_314 : tfl RX0 314 4 6 5 false := ⟨RX4, TX4, 8, "TwoSeek$Town", 6, rfl, ck4, by decide, rfl, rfl, by decide, rfl, Or.inl rfl, Or.inr ⟨_, q334⟩⟩
theorem fX0_325 : tfl RX0 325 4 4 0 false := ⟨RX4, TX4, 8, "TwoSeek$Town", 4, rfl, ck4, by decide, rfl, rfl, by decide, rfl, Or.inl rfl, Or.inr ⟨_, q330⟩⟩
theorem fX0_328 : tfl RX0 328 4 5 0 false := ⟨RX4, TX4, 8, "TwoSeek$Town", 5, rfl, ck4, by decide, rfl, rfl, by decide, rfl, Or.inl rfl, Or.inr ⟨_, q332⟩⟩
theorem fX0_334 : tfl RX0 334 3 0 2 false := ⟨RX3, TX3, 4, "TwoSeek$Walker", 0, rfl, ck3, by decide, rfl, rfl, by decide, rfl, Or.inl rfl, Or.inr ⟨_, q288⟩⟩
theorem fX0_357 : tfl RX0 357 7 3 0 false := ⟨RX7, TX7, 7, "TwoSeek$Place", 3, rfl, ck7, by decide, rfl, rfl, by decide, rfl, Or.inl rfl, Or.inr ⟨_, q790⟩⟩
theorem fX0_359 : tfl RX0 359 7 4 0 false := ⟨RX7, TX7, 7, "TwoSeek$Place", 4, rfl, ck7, by decide, rfl, rfl, by decide, rfl, Or.inl rfl, Or.inr ⟨_, q793⟩⟩
theorem fX0_365 : tfl RX0 365 0 16 0 false := ⟨RX0, TX0, 48, "TwoSeek", 16, rfl, ck0, by decide, rfl, rfl, by decide, rfl, Or.inl rfl, Or.inl q392⟩
theorem fX0_389 : tfl RX0 389 0 27 0 false := ⟨RX0, TX0, 48, "TwoSeek", 27, rfl, ck0, by decide, rfl, rfl, by decide, rfl, Or.inl rfl, Or.inl q403⟩
theorem fX0_392 : tfl RX0 392 0 30 1 false := ⟨RX0, TX0, 48, "TwoSeek", 30, rfl, ck0, by decide, rfl, rfl, by decide, rfl, Or.inl rfl, Or.inl q406⟩
theorem fX0_395 : tfl RX0 395 0 31 1 false := ⟨RX0, TX0, 48, "TwoSeek", 31, rfl, ck0, by decide, rfl, rfl, by decide, rfl, Or.inl rfl, Or.inl q407⟩
theorem fX0_413 : tfl RX0 413 0 28 0 false := ⟨RX0, TX0, 48, "TwoSeek", 28, rfl, ck0, by decide, rfl, rfl, by decide, rfl, Or.inl rfl, Or.inl q404⟩
theorem fX0_416 : tfl RX0 416 0 29 0 false := ⟨RX0, TX0, 48, "TwoSeek", 29, rfl, ck0, by decide, rfl, rfl, by decide, rfl, Or.inl rfl, Or.inl q405⟩
theorem fX0_455 : tfl RX0 455 0 46 1 false := ⟨RX0, TX0, 48, "TwoSeek", 46, rfl, ck0, by decide, rfl, rfl, by decide, rfl, Or.inl rfl, Or.inl q422⟩
theorem fX0_458 : tfl RX0 458 0 45 1 false := ⟨RX0, TX0, 48, "TwoSeek", 45, rfl, ck0, by decide, rfl, rfl, by decide, rfl, Or.inl rfl, Or.inl q421⟩
theorem fX0_478 : tfl RX0 478 0 47 0 false := ⟨RX0, TX0, 48, "TwoSeek", 47, rfl, ck0, by decide, rfl, rfl, by decide, rfl, Or.inl rfl, Or.inl q423⟩
theorem fX11_11 : tfl RX11 11 3 2 0 false := ⟨RX3, TX3, 4, "TwoSeek$Walker", 2, rfl, ck3, by decide, rfl, rfl, by decide, rfl, Or.inl rfl, Or.inr ⟨_, q294⟩⟩
theorem fX11_17 : tfl RX11 17 10 0 2 true := ⟨RX11, TX11, 1, "TwoSeek$Again", 0, rfl, ck10, by decide, rfl, rfl, by decide, rfl, Or.inr q939, Or.inl q938⟩
theorem fX10_7 : tfl RX10 7 3 2 0 false := ⟨RX3, TX3, 4, "TwoSeek$Walker", 2, rfl, ck3, by decide, rfl, rfl, by decide, rfl, Or.inl rfl, Or.inr ⟨_, q292⟩⟩
theorem fX10_13_9 : tfl RX10 13 9 0 2 true := ⟨RX10, TX10, 1, "TwoSeek$Hourly", 0, rfl, ck9, by decide, rfl, rfl, by decide, rfl, Or.inr q937, Or.inl q936⟩
theorem fX10_13_10 : tfl RX10 13 10 0 2 true := ⟨RX11, TX11, 1, "TwoSeek$Hourly", 0, rfl, ck10, by decide, rfl, rfl, by decide, rfl, Or.inr q937, Or.inl q936⟩
theorem fX8_7 : tfl RX8 7 8 0 2 true := ⟨RX8, TX8, 3, "TwoSeek$Lane", 0, rfl, ck8, by decide, rfl, rfl, by decide, rfl, Or.inl rfl, Or.inl q841⟩
theorem fX8_7F : tflF RX8 7 8 0 2 := ⟨RX8, TX8, 3, 0, rfl, ck8, by decide, rfl, rfl, by decide, rfl, rfl, q841⟩
theorem fX8_13 : tfl RX8 13 8 1 2 true := ⟨RX8, TX8, 3, "TwoSeek$Lane", 1, rfl, ck8, by decide, rfl, rfl, by decide, rfl, Or.inl rfl, Or.inl q842⟩
theorem fX8_13F : tflF RX8 13 8 1 2 := ⟨RX8, TX8, 3, 1, rfl, ck8, by decide, rfl, rfl, by decide, rfl, rfl, q842⟩
theorem fX7_9 : tfl RX7 9 7 3 0 false := ⟨RX7, TX7, 7, "TwoSeek$Place", 3, rfl, ck7, by decide, rfl, rfl, by decide, rfl, Or.inl rfl, Or.inl q788⟩
theorem fX7_15 : tfl RX7 15 7 4 0 false := ⟨RX7, TX7, 7, "TwoSeek$Place", 4, rfl, ck7, by decide, rfl, rfl, by decide, rfl, Or.inl rfl, Or.inl q791⟩
theorem fX7_20 : tfl RX7 20 7 6 2 true := ⟨RX7, TX7, 7, "TwoSeek$Place", 6, rfl, ck7, by decide, rfl, rfl, by decide, rfl, Or.inl rfl, Or.inl q798⟩
theorem fX7_20F : tflF RX7 20 7 6 2 := ⟨RX7, TX7, 7, 6, rfl, ck7, by decide, rfl, rfl, by decide, rfl, rfl, q798⟩
theorem fX7_24 : tfl RX7 24 7 0 1 true := ⟨RX7, TX7, 7, "TwoSeek$Place", 0, rfl, ck7, by decide, rfl, rfl, by decide, rfl, Or.inl rfl, Or.inl q780⟩
theorem fX7_24F : tflF RX7 24 7 0 1 := ⟨RX7, TX7, 7, 0, rfl, ck7, by decide, rfl, rfl, by decide, rfl, rfl, q780⟩
theorem fX7_28 : tfl RX7 28 7 1 0 true := ⟨RX7, TX7, 7, "TwoSeek$Place", 1, rfl, ck7, by decide, rfl, rfl, by decide, rfl, Or.inl rfl, Or.inl q782⟩
theorem fX7_28F : tflF RX7 28 7 1 0 := ⟨RX7, TX7, 7, 1, rfl, ck7, by decide, rfl, rfl, by decide, rfl, rfl, q782⟩
theorem fX7_31 : tfl RX7 31 7 5 0 false := ⟨RX7, TX7, 7, "TwoSeek$Place", 5, rfl, ck7, by decide, rfl, rfl, by decide, rfl, Or.inl rfl, Or.inl q794⟩
theorem fX7_38 : tfl RX7 38 8 2 5 false := ⟨RX8, TX8, 3, "TwoSeek$Lane", 2, rfl, ck8, by decide, rfl, rfl, by decide, rfl, Or.inl rfl, Or.inr ⟨_, q843⟩⟩
theorem fX2_9 : tfl RX2 9 2 0 2 true := ⟨RX2, TX2, 10, "TwoSeek$Reader", 0, rfl, ck2, by decide, rfl, rfl, by decide, rfl, Or.inl rfl, Or.inl q246⟩
theorem fX2_9F : tflF RX2 9 2 0 2 := ⟨RX2, TX2, 10, 0, rfl, ck2, by decide, rfl, rfl, by decide, rfl, rfl, q246⟩
theorem fX2_15 : tfl RX2 15 2 9 2 true := ⟨RX2, TX2, 10, "TwoSeek$Reader", 9, rfl, ck2, by decide, rfl, rfl, by decide, rfl, Or.inl rfl, Or.inl q256⟩
theorem fX2_15F : tflF RX2 15 2 9 2 := ⟨RX2, TX2, 10, 9, rfl, ck2, by decide, rfl, rfl, by decide, rfl, rfl, q256⟩
theorem fX2_19 : tfl RX2 19 2 2 0 false := ⟨RX2, TX2, 10, "TwoSeek$Reader", 2, rfl, ck2, by decide, rfl, rfl, by decide, rfl, Or.inl rfl, Or.inl q249⟩
theorem fX2_23 : tfl RX2 23 2 5 0 false := ⟨RX2, TX2, 10, "TwoSeek$Reader", 5, rfl, ck2, by decide, rfl, rfl, by decide, rfl, Or.inl rfl, Or.inl q252⟩
theorem fX2_30 : tfl RX2 30 2 4 0 false := ⟨RX2, TX2, 10, "TwoSeek$Reader", 4, rfl, ck2, by decide, rfl, rfl, by decide, rfl, Or.inl rfl, Or.inl q251⟩
theorem fX2_33 : tfl RX2 33 2 6 0 false := ⟨RX2, TX2, 10, "TwoSeek$Reader", 6, rfl, ck2, by decide, rfl, rfl, by decide, rfl, Or.inl rfl, Or.inl q253⟩
theorem fX2_36 : tfl RX2 36 2 3 0 false := ⟨RX2, TX2, 10, "TwoSeek$Reader", 3, rfl, ck2, by decide, rfl, rfl, by decide, rfl, Or.inl rfl, Or.inl q250⟩
theorem fX2_88 : tfl RX2 88 2 7 0 false := ⟨RX2, TX2, 10, "TwoSeek$Reader", 7, rfl, ck2, by decide, rfl, rfl, by decide, rfl, Or.inl rfl, Or.inl q254⟩
theorem fX2_94 : tfl RX2 94 2 8 2 false := ⟨RX2, TX2, 10, "TwoSeek$Reader", 8, rfl, ck2, by decide, rfl, rfl, by decide, rfl, Or.inl rfl, Or.inl q255⟩
theorem fX2_101 : tfl RX2 101 4 3 0 false := ⟨RX4, TX4, 8, "TwoSeek$Town", 3, rfl, ck4, by decide, rfl, rfl, by decide, rfl, Or.inl rfl, Or.inr ⟨_, q326⟩⟩
theorem fX2_110 : tfl RX2 110 4 6 5 false := ⟨RX4, TX4, 8, "TwoSeek$Town", 6, rfl, ck4, by decide, rfl, rfl, by decide, rfl, Or.inl rfl, Or.inr ⟨_, q333⟩⟩
theorem fX2_117 : tfl RX2 117 4 4 0 false := ⟨RX4, TX4, 8, "TwoSeek$Town", 4, rfl, ck4, by decide, rfl, rfl, by decide, rfl, Or.inl rfl, Or.inr ⟨_, q329⟩⟩
theorem fX2_120 : tfl RX2 120 4 5 0 false := ⟨RX4, TX4, 8, "TwoSeek$Town", 5, rfl, ck4, by decide, rfl, rfl, by decide, rfl, Or.inl rfl, Or.inr ⟨_, q331⟩⟩
theorem fX2_131 : tfl RX2 131 4 2 0 false := ⟨RX4, TX4, 8, "TwoSeek$Town", 2, rfl, ck4, by decide, rfl, rfl, by decide, rfl, Or.inl rfl, Or.inr ⟨_, q324⟩⟩
theorem fX2_139 : tfl RX2 139 4 0 2 true := ⟨RX4, TX4, 8, "TwoSeek$Town", 0, rfl, ck4, by decide, rfl, rfl, by decide, rfl, Or.inl rfl, Or.inr ⟨_, q318⟩⟩
theorem fX2_143 : tfl RX2 143 7 2 0 false := ⟨RX7, TX7, 7, "TwoSeek$Place", 2, rfl, ck7, by decide, rfl, rfl, by decide, rfl, Or.inl rfl, Or.inr ⟨_, q786⟩⟩
theorem fX2_146 : tfl RX2 146 7 3 0 false := ⟨RX7, TX7, 7, "TwoSeek$Place", 3, rfl, ck7, by decide, rfl, rfl, by decide, rfl, Or.inl rfl, Or.inr ⟨_, q789⟩⟩
theorem fX2_149 : tfl RX2 149 7 4 0 false := ⟨RX7, TX7, 7, "TwoSeek$Place", 4, rfl, ck7, by decide, rfl, rfl, by decide, rfl, Or.inl rfl, Or.inr ⟨_, q792⟩⟩
theorem fX2_152 : tfl RX2 152 7 5 0 false := ⟨RX7, TX7, 7, "TwoSeek$Place", 5, rfl, ck7, by decide, rfl, rfl, by decide, rfl, Or.inl rfl, Or.inr ⟨_, q796⟩⟩
theorem fX2_170 : tfl RX2 170 4 1 2 true := ⟨RX4, TX4, 8, "TwoSeek$Town", 1, rfl, ck4, by decide, rfl, rfl, by decide, rfl, Or.inl rfl, Or.inr ⟨_, q321⟩⟩
theorem fX12_9 : tfl RX12 9 11 0 2 true := ⟨RX12, TX12, 1, "TwoSeek$Sight", 0, rfl, ck11, by decide, rfl, rfl, by decide, rfl, Or.inr q935, Or.inl q934⟩
theorem fX12_15 : tfl RX12 15 3 3 0 false := ⟨RX3, TX3, 4, "TwoSeek$Walker", 3, rfl, ck3, by decide, rfl, rfl, by decide, rfl, Or.inl rfl, Or.inr ⟨_, q296⟩⟩
theorem fX12_21 : tfl RX12 21 3 1 2 false := ⟨RX3, TX3, 4, "TwoSeek$Walker", 1, rfl, ck3, by decide, rfl, rfl, by decide, rfl, Or.inl rfl, Or.inr ⟨_, q290⟩⟩
theorem fX12_25 : tfl RX12 25 7 2 0 false := ⟨RX7, TX7, 7, "TwoSeek$Place", 2, rfl, ck7, by decide, rfl, rfl, by decide, rfl, Or.inl rfl, Or.inr ⟨_, q785⟩⟩
theorem fX4_11 : tfl RX4 11 4 0 2 true := ⟨RX4, TX4, 8, "TwoSeek$Town", 0, rfl, ck4, by decide, rfl, rfl, by decide, rfl, Or.inl rfl, Or.inl q317⟩
theorem fX4_11F : tflF RX4 11 4 0 2 := ⟨RX4, TX4, 8, 0, rfl, ck4, by decide, rfl, rfl, by decide, rfl, rfl, q317⟩
theorem fX4_19 : tfl RX4 19 4 1 2 true := ⟨RX4, TX4, 8, "TwoSeek$Town", 1, rfl, ck4, by decide, rfl, rfl, by decide, rfl, Or.inl rfl, Or.inl q320⟩
theorem fX4_19F : tflF RX4 19 4 1 2 := ⟨RX4, TX4, 8, 1, rfl, ck4, by decide, rfl, rfl, by decide, rfl, rfl, q320⟩
theorem fX4_23 : tfl RX4 23 4 4 0 false := ⟨RX4, TX4, 8, "TwoSeek$Town", 4, rfl, ck4, by decide, rfl, rfl, by decide, rfl, Or.inl rfl, Or.inl q328⟩
theorem fX4_27 : tfl RX4 27 4 7 2 true := ⟨RX4, TX4, 8, "TwoSeek$Town", 7, rfl, ck4, by decide, rfl, rfl, by decide, rfl, Or.inl rfl, Or.inl q335⟩
theorem fX4_27F : tflF RX4 27 4 7 2 := ⟨RX4, TX4, 8, 7, rfl, ck4, by decide, rfl, rfl, by decide, rfl, rfl, q335⟩
theorem fX4_31 : tfl RX4 31 4 2 0 false := ⟨RX4, TX4, 8, "TwoSeek$Town", 2, rfl, ck4, by decide, rfl, rfl, by decide, rfl, Or.inl rfl, Or.inl q323⟩
theorem fX4_34 : tfl RX4 34 7 0 1 true := ⟨RX7, TX7, 7, "TwoSeek$Place", 0, rfl, ck7, by decide, rfl, rfl, by decide, rfl, Or.inl rfl, Or.inl q781⟩
theorem fX4_38 : tfl RX4 38 7 1 0 true := ⟨RX7, TX7, 7, "TwoSeek$Place", 1, rfl, ck7, by decide, rfl, rfl, by decide, rfl, Or.inl rfl, Or.inl q783⟩
theorem fX4_41 : tfl RX4 41 7 5 0 false := ⟨RX7, TX7, 7, "TwoSeek$Place", 5, rfl, ck7, by decide, rfl, rfl, by decide, rfl, Or.inl rfl, Or.inr ⟨_, q795⟩⟩
theorem fX5_7 : tfl RX5 7 5 0 2 false := ⟨RX5, TX5, 2, "TwoSeek$Tray", 0, rfl, ck5, by decide, rfl, rfl, by decide, rfl, Or.inl rfl, Or.inl q365⟩
theorem fX5_13 : tfl RX5 13 5 1 0 false := ⟨RX5, TX5, 2, "TwoSeek$Tray", 1, rfl, ck5, by decide, rfl, rfl, by decide, rfl, Or.inl rfl, Or.inl q367⟩
theorem fX3_7 : tfl RX3 7 3 0 2 false := ⟨RX3, TX3, 4, "TwoSeek$Walker", 0, rfl, ck3, by decide, rfl, rfl, by decide, rfl, Or.inl rfl, Or.inl q287⟩
theorem fX3_13 : tfl RX3 13 3 1 2 false := ⟨RX3, TX3, 4, "TwoSeek$Walker", 1, rfl, ck3, by decide, rfl, rfl, by decide, rfl, Or.inl rfl, Or.inl q289⟩
theorem fX3_17 : tfl RX3 17 3 2 0 false := ⟨RX3, TX3, 4, "TwoSeek$Walker", 2, rfl, ck3, by decide, rfl, rfl, by decide, rfl, Or.inl rfl, Or.inl q295⟩
theorem fX3_21 : tfl RX3 21 3 3 0 false := ⟨RX3, TX3, 4, "TwoSeek$Walker", 3, rfl, ck3, by decide, rfl, rfl, by decide, rfl, Or.inl rfl, Or.inl q297⟩
theorem fX9_7_9 : tfl RX9 7 9 0 2 true := ⟨RX10, TX10, 1, "TwoSeek$Way", 0, rfl, ck9, by decide, rfl, rfl, by decide, rfl, Or.inl rfl, Or.inl q933⟩
theorem fX9_7_9F : tflF RX9 7 9 0 2 := ⟨RX10, TX10, 1, 0, rfl, ck9, by decide, rfl, rfl, by decide, rfl, rfl, q933⟩
theorem fX9_7_10 : tfl RX9 7 10 0 2 true := ⟨RX11, TX11, 1, "TwoSeek$Way", 0, rfl, ck10, by decide, rfl, rfl, by decide, rfl, Or.inl rfl, Or.inl q933⟩
theorem fX9_7_10F : tflF RX9 7 10 0 2 := ⟨RX11, TX11, 1, 0, rfl, ck10, by decide, rfl, rfl, by decide, rfl, rfl, q933⟩
theorem fX9_7_11 : tfl RX9 7 11 0 2 true := ⟨RX12, TX12, 1, "TwoSeek$Way", 0, rfl, ck11, by decide, rfl, rfl, by decide, rfl, Or.inl rfl, Or.inl q933⟩
theorem fX9_7_11F : tflF RX9 7 11 0 2 := ⟨RX12, TX12, 1, 0, rfl, ck11, by decide, rfl, rfl, by decide, rfl, rfl, q933⟩
theorem fX9_13 : tfl RX9 13 3 2 0 false := ⟨RX3, TX3, 4, "TwoSeek$Walker", 2, rfl, ck3, by decide, rfl, rfl, by decide, rfl, Or.inl rfl, Or.inr ⟨_, q293⟩⟩
theorem fX1_7 : tfl RX1 7 1 6 0 false := ⟨RX1, TX1, 8, "TwoSeek$Wrong", 6, rfl, ck1, by decide, rfl, rfl, by decide, rfl, Or.inl rfl, Or.inl q219⟩
theorem fX1_13 : tfl RX1 13 1 7 0 false := ⟨RX1, TX1, 8, "TwoSeek$Wrong", 7, rfl, ck1, by decide, rfl, rfl, by decide, rfl, Or.inl rfl, Or.inl q221⟩
theorem fX6_7 : tfl RX6 7 6 3 1 false := ⟨RX6, TX6, 79, "TwoSeekModel", 3, rfl, ck6, by decide, rfl, rfl, by decide, rfl, Or.inl rfl, Or.inl q1193⟩
theorem fX6_13 : tfl RX6 13 6 4 2 true := ⟨RX6, TX6, 79, "TwoSeekModel", 4, rfl, ck6, by decide, rfl, rfl, by decide, rfl, Or.inl rfl, Or.inl q1194⟩
theorem fX6_13F : tflF RX6 13 6 4 2 := ⟨RX6, TX6, 79, 4, rfl, ck6, by decide, rfl, rfl, by decide, rfl, rfl, q1194⟩
theorem fX6_17 : tfl RX6 17 6 5 2 true := ⟨RX6, TX6, 79, "TwoSeekModel", 5, rfl, ck6, by decide, rfl, rfl, by decide, rfl, Or.inl rfl, Or.inl q1195⟩
theorem fX6_17F : tflF RX6 17 6 5 2 := ⟨RX6, TX6, 79, 5, rfl, ck6, by decide, rfl, rfl, by decide, rfl, rfl, q1195⟩
theorem fX6_20 : tfl RX6 20 6 6 2 true := ⟨RX6, TX6, 79, "TwoSeekModel", 6, rfl, ck6, by decide, rfl, rfl, by decide, rfl, Or.inl rfl, Or.inl q1196⟩
theorem fX6_20F : tflF RX6 20 6 6 2 := ⟨RX6, TX6, 79, 6, rfl, ck6, by decide, rfl, rfl, by decide, rfl, rfl, q1196⟩
theorem fX6_24 : tfl RX6 24 6 7 2 true := ⟨RX6, TX6, 79, "TwoSeekModel", 7, rfl, ck6, by decide, rfl, rfl, by decide, rfl, Or.inl rfl, Or.inl q1197⟩
theorem fX6_24F : tflF RX6 24 6 7 2 := ⟨RX6, TX6, 79, 7, rfl, ck6, by decide, rfl, rfl, by decide, rfl, rfl, q1197⟩
theorem fX6_28 : tfl RX6 28 6 10 0 false := ⟨RX6, TX6, 79, "TwoSeekModel", 10, rfl, ck6, by decide, rfl, rfl, by decide, rfl, Or.inl rfl, Or.inl q1200⟩
theorem fX6_32 : tfl RX6 32 6 11 0 false := ⟨RX6, TX6, 79, "TwoSeekModel", 11, rfl, ck6, by decide, rfl, rfl, by decide, rfl, Or.inl rfl, Or.inl q1201⟩
theorem fX6_35 : tfl RX6 35 6 24 0 false := ⟨RX6, TX6, 79, "TwoSeekModel", 24, rfl, ck6, by decide, rfl, rfl, by decide, rfl, Or.inl rfl, Or.inl q1214⟩
theorem fX6_38 : tfl RX6 38 6 31 2 true := ⟨RX6, TX6, 79, "TwoSeekModel", 31, rfl, ck6, by decide, rfl, rfl, by decide, rfl, Or.inl rfl, Or.inl q1221⟩
theorem fX6_38F : tflF RX6 38 6 31 2 := ⟨RX6, TX6, 79, 31, rfl, ck6, by decide, rfl, rfl, by decide, rfl, rfl, q1221⟩
theorem fX6_41 : tfl RX6 41 6 32 2 true := ⟨RX6, TX6, 79, "TwoSeekModel", 32, rfl, ck6, by decide, rfl, rfl, by decide, rfl, Or.inl rfl, Or.inl q1222⟩
theorem fX6_41F : tflF RX6 41 6 32 2 := ⟨RX6, TX6, 79, 32, rfl, ck6, by decide, rfl, rfl, by decide, rfl, rfl, q1222⟩
theorem fX6_44 : tfl RX6 44 6 33 2 true := ⟨RX6, TX6, 79, "TwoSeekModel", 33, rfl, ck6, by decide, rfl, rfl, by decide, rfl, Or.inl rfl, Or.inl q1223⟩
theorem fX6_44F : tflF RX6 44 6 33 2 := ⟨RX6, TX6, 79, 33, rfl, ck6, by decide, rfl, rfl, by decide, rfl, rfl, q1223⟩
theorem fX6_47 : tfl RX6 47 6 34 2 true := ⟨RX6, TX6, 79, "TwoSeekModel", 34, rfl, ck6, by decide, rfl, rfl, by decide, rfl, Or.inl rfl, Or.inl q1224⟩
theorem fX6_47F : tflF RX6 47 6 34 2 := ⟨RX6, TX6, 79, 34, rfl, ck6, by decide, rfl, rfl, by decide, rfl, rfl, q1224⟩
theorem fX6_50 : tfl RX6 50 6 35 2 true := ⟨RX6, TX6, 79, "TwoSeekModel", 35, rfl, ck6, by decide, rfl, rfl, by decide, rfl, Or.inl rfl, Or.inl q1225⟩
theorem fX6_50F : tflF RX6 50 6 35 2 := ⟨RX6, TX6, 79, 35, rfl, ck6, by decide, rfl, rfl, by decide, rfl, rfl, q1225⟩
theorem fX6_53 : tfl RX6 53 6 36 2 true := ⟨RX6, TX6, 79, "TwoSeekModel", 36, rfl, ck6, by decide, rfl, rfl, by decide, rfl, Or.inl rfl, Or.inl q1226⟩
theorem fX6_53F : tflF RX6 53 6 36 2 := ⟨RX6, TX6, 79, 36, rfl, ck6, by decide, rfl, rfl, by decide, rfl, rfl, q1226⟩
theorem fX6_56 : tfl RX6 56 6 37 2 true := ⟨RX6, TX6, 79, "TwoSeekModel", 37, rfl, ck6, by decide, rfl, rfl, by decide, rfl, Or.inl rfl, Or.inl q1227⟩
theorem fX6_56F : tflF RX6 56 6 37 2 := ⟨RX6, TX6, 79, 37, rfl, ck6, by decide, rfl, rfl, by decide, rfl, rfl, q1227⟩
theorem fX6_59 : tfl RX6 59 6 38 2 true := ⟨RX6, TX6, 79, "TwoSeekModel", 38, rfl, ck6, by decide, rfl, rfl, by decide, rfl, Or.inl rfl, Or.inl q1228⟩
theorem fX6_59F : tflF RX6 59 6 38 2 := ⟨RX6, TX6, 79, 38, rfl, ck6, by decide, rfl, rfl, by decide, rfl, rfl, q1228⟩
theorem fX6_62 : tfl RX6 62 6 39 2 true := ⟨RX6, TX6, 79, "TwoSeekModel", 39, rfl, ck6, by decide, rfl, rfl, by decide, rfl, Or.inl rfl, Or.inl q1229⟩
theorem fX6_62F : tflF RX6 62 6 39 2 := ⟨RX6, TX6, 79, 39, rfl, ck6, by decide, rfl, rfl, by decide, rfl, rfl, q1229⟩
theorem fX6_65 : tfl RX6 65 6 40 2 true := ⟨RX6, TX6, 79, "TwoSeekModel", 40, rfl, ck6, by decide, rfl, rfl, by decide, rfl, Or.inl rfl, Or.inl q1230⟩
theorem fX6_65F : tflF RX6 65 6 40 2 := ⟨RX6, TX6, 79, 40, rfl, ck6, by decide, rfl, rfl, by decide, rfl, rfl, q1230⟩
theorem fX6_68 : tfl RX6 68 6 41 2 true := ⟨RX6, TX6, 79, "TwoSeekModel", 41, rfl, ck6, by decide, rfl, rfl, by decide, rfl, Or.inl rfl, Or.inl q1231⟩
theorem fX6_68F : tflF RX6 68 6 41 2 := ⟨RX6, TX6, 79, 41, rfl, ck6, by decide, rfl, rfl, by decide, rfl, rfl, q1231⟩
theorem fX6_72 : tfl RX6 72 6 42 2 true := ⟨RX6, TX6, 79, "TwoSeekModel", 42, rfl, ck6, by decide, rfl, rfl, by decide, rfl, Or.inl rfl, Or.inl q1232⟩
theorem fX6_72F : tflF RX6 72 6 42 2 := ⟨RX6, TX6, 79, 42, rfl, ck6, by decide, rfl, rfl, by decide, rfl, rfl, q1232⟩
theorem fX6_75 : tfl RX6 75 6 44 2 true := ⟨RX6, TX6, 79, "TwoSeekModel", 44, rfl, ck6, by decide, rfl, rfl, by decide, rfl, Or.inl rfl, Or.inl q1234⟩
theorem fX6_75F : tflF RX6 75 6 44 2 := ⟨RX6, TX6, 79, 44, rfl, ck6, by decide, rfl, rfl, by decide, rfl, rfl, q1234⟩
theorem fX6_78 : tfl RX6 78 6 45 2 true := ⟨RX6, TX6, 79, "TwoSeekModel", 45, rfl, ck6, by decide, rfl, rfl, by decide, rfl, Or.inl rfl, Or.inl q1235⟩
theorem fX6_78F : tflF RX6 78 6 45 2 := ⟨RX6, TX6, 79, 45, rfl, ck6, by decide, rfl, rfl, by decide, rfl, rfl, q1235⟩
theorem fX6_81 : tfl RX6 81 6 46 2 true := ⟨RX6, TX6, 79, "TwoSeekModel", 46, rfl, ck6, by decide, rfl, rfl, by decide, rfl, Or.inl rfl, Or.inl q1236⟩
theorem fX6_81F : tflF RX6 81 6 46 2 := ⟨RX6, TX6, 79, 46, rfl, ck6, by decide, rfl, rfl, by decide, rfl, rfl, q1236⟩
theorem fX6_84 : tfl RX6 84 6 47 2 true := ⟨RX6, TX6, 79, "TwoSeekModel", 47, rfl, ck6, by decide, rfl, rfl, by decide, rfl, Or.inl rfl, Or.inl q1237⟩
theorem fX6_84F : tflF RX6 84 6 47 2 := ⟨RX6, TX6, 79, 47, rfl, ck6, by decide, rfl, rfl, by decide, rfl, rfl, q1237⟩
theorem fX6_87 : tfl RX6 87 6 48 2 true := ⟨RX6, TX6, 79, "TwoSeekModel", 48, rfl, ck6, by decide, rfl, rfl, by decide, rfl, Or.inl rfl, Or.inl q1238⟩
theorem fX6_87F : tflF RX6 87 6 48 2 := ⟨RX6, TX6, 79, 48, rfl, ck6, by decide, rfl, rfl, by decide, rfl, rfl, q1238⟩
theorem fX6_90 : tfl RX6 90 6 49 2 true := ⟨RX6, TX6, 79, "TwoSeekModel", 49, rfl, ck6, by decide, rfl, rfl, by decide, rfl, Or.inl rfl, Or.inl q1239⟩
theorem fX6_90F : tflF RX6 90 6 49 2 := ⟨RX6, TX6, 79, 49, rfl, ck6, by decide, rfl, rfl, by decide, rfl, rfl, q1239⟩
theorem fX6_93 : tfl RX6 93 6 50 2 true := ⟨RX6, TX6, 79, "TwoSeekModel", 50, rfl, ck6, by decide, rfl, rfl, by decide, rfl, Or.inl rfl, Or.inl q1240⟩
theorem fX6_93F : tflF RX6 93 6 50 2 := ⟨RX6, TX6, 79, 50, rfl, ck6, by decide, rfl, rfl, by decide, rfl, rfl, q1240⟩
theorem fX6_96 : tfl RX6 96 6 51 2 true := ⟨RX6, TX6, 79, "TwoSeekModel", 51, rfl, ck6, by decide, rfl, rfl, by decide, rfl, Or.inl rfl, Or.inl q1241⟩
theorem fX6_96F : tflF RX6 96 6 51 2 := ⟨RX6, TX6, 79, 51, rfl, ck6, by decide, rfl, rfl, by decide, rfl, rfl, q1241⟩
theorem fX6_99 : tfl RX6 99 6 55 2 true := ⟨RX6, TX6, 79, "TwoSeekModel", 55, rfl, ck6, by decide, rfl, rfl, by decide, rfl, Or.inl rfl, Or.inl q1245⟩
theorem fX6_99F : tflF RX6 99 6 55 2 := ⟨RX6, TX6, 79, 55, rfl, ck6, by decide, rfl, rfl, by decide, rfl, rfl, q1245⟩
theorem fX6_102 : tfl RX6 102 6 56 2 true := ⟨RX6, TX6, 79, "TwoSeekModel", 56, rfl, ck6, by decide, rfl, rfl, by decide, rfl, Or.inl rfl, Or.inl q1246⟩
theorem fX6_102F : tflF RX6 102 6 56 2 := ⟨RX6, TX6, 79, 56, rfl, ck6, by decide, rfl, rfl, by decide, rfl, rfl, q1246⟩
theorem fX6_105 : tfl RX6 105 6 57 2 true := ⟨RX6, TX6, 79, "TwoSeekModel", 57, rfl, ck6, by decide, rfl, rfl, by decide, rfl, Or.inl rfl, Or.inl q1247⟩
theorem fX6_105F : tflF RX6 105 6 57 2 := ⟨RX6, TX6, 79, 57, rfl, ck6, by decide, rfl, rfl, by decide, rfl, rfl, q1247⟩
theorem fX6_108 : tfl RX6 108 6 58 2 true := ⟨RX6, TX6, 79, "TwoSeekModel", 58, rfl, ck6, by decide, rfl, rfl, by decide, rfl, Or.inl rfl, Or.inl q1248⟩
theorem fX6_108F : tflF RX6 108 6 58 2 := ⟨RX6, TX6, 79, 58, rfl, ck6, by decide, rfl, rfl, by decide, rfl, rfl, q1248⟩
theorem fX6_111 : tfl RX6 111 6 59 1 false := ⟨RX6, TX6, 79, "TwoSeekModel", 59, rfl, ck6, by decide, rfl, rfl, by decide, rfl, Or.inl rfl, Or.inl q1249⟩
theorem fX6_114 : tfl RX6 114 6 62 2 true := ⟨RX6, TX6, 79, "TwoSeekModel", 62, rfl, ck6, by decide, rfl, rfl, by decide, rfl, Or.inl rfl, Or.inl q1252⟩
theorem fX6_114F : tflF RX6 114 6 62 2 := ⟨RX6, TX6, 79, 62, rfl, ck6, by decide, rfl, rfl, by decide, rfl, rfl, q1252⟩
theorem fX6_117 : tfl RX6 117 6 65 2 true := ⟨RX6, TX6, 79, "TwoSeekModel", 65, rfl, ck6, by decide, rfl, rfl, by decide, rfl, Or.inl rfl, Or.inl q1255⟩
theorem fX6_117F : tflF RX6 117 6 65 2 := ⟨RX6, TX6, 79, 65, rfl, ck6, by decide, rfl, rfl, by decide, rfl, rfl, q1255⟩
theorem fX6_120 : tfl RX6 120 6 66 2 true := ⟨RX6, TX6, 79, "TwoSeekModel", 66, rfl, ck6, by decide, rfl, rfl, by decide, rfl, Or.inl rfl, Or.inl q1256⟩
theorem fX6_120F : tflF RX6 120 6 66 2 := ⟨RX6, TX6, 79, 66, rfl, ck6, by decide, rfl, rfl, by decide, rfl, rfl, q1256⟩
theorem fX6_123 : tfl RX6 123 6 67 2 true := ⟨RX6, TX6, 79, "TwoSeekModel", 67, rfl, ck6, by decide, rfl, rfl, by decide, rfl, Or.inl rfl, Or.inl q1257⟩
theorem fX6_123F : tflF RX6 123 6 67 2 := ⟨RX6, TX6, 79, 67, rfl, ck6, by decide, rfl, rfl, by decide, rfl, rfl, q1257⟩
theorem fX6_126 : tfl RX6 126 6 68 2 true := ⟨RX6, TX6, 79, "TwoSeekModel", 68, rfl, ck6, by decide, rfl, rfl, by decide, rfl, Or.inl rfl, Or.inl q1258⟩
theorem fX6_126F : tflF RX6 126 6 68 2 := ⟨RX6, TX6, 79, 68, rfl, ck6, by decide, rfl, rfl, by decide, rfl, rfl, q1258⟩
theorem fX6_129 : tfl RX6 129 6 69 2 true := ⟨RX6, TX6, 79, "TwoSeekModel", 69, rfl, ck6, by decide, rfl, rfl, by decide, rfl, Or.inl rfl, Or.inl q1259⟩
theorem fX6_129F : tflF RX6 129 6 69 2 := ⟨RX6, TX6, 79, 69, rfl, ck6, by decide, rfl, rfl, by decide, rfl, rfl, q1259⟩
theorem fX6_132 : tfl RX6 132 6 70 2 true := ⟨RX6, TX6, 79, "TwoSeekModel", 70, rfl, ck6, by decide, rfl, rfl, by decide, rfl, Or.inl rfl, Or.inl q1260⟩
theorem fX6_132F : tflF RX6 132 6 70 2 := ⟨RX6, TX6, 79, 70, rfl, ck6, by decide, rfl, rfl, by decide, rfl, rfl, q1260⟩
theorem fX6_135 : tfl RX6 135 6 71 2 true := ⟨RX6, TX6, 79, "TwoSeekModel", 71, rfl, ck6, by decide, rfl, rfl, by decide, rfl, Or.inl rfl, Or.inl q1261⟩
theorem fX6_135F : tflF RX6 135 6 71 2 := ⟨RX6, TX6, 79, 71, rfl, ck6, by decide, rfl, rfl, by decide, rfl, rfl, q1261⟩
theorem fX6_138 : tfl RX6 138 6 74 2 true := ⟨RX6, TX6, 79, "TwoSeekModel", 74, rfl, ck6, by decide, rfl, rfl, by decide, rfl, Or.inl rfl, Or.inl q1264⟩
theorem fX6_138F : tflF RX6 138 6 74 2 := ⟨RX6, TX6, 79, 74, rfl, ck6, by decide, rfl, rfl, by decide, rfl, rfl, q1264⟩
theorem fX6_141 : tfl RX6 141 6 75 2 true := ⟨RX6, TX6, 79, "TwoSeekModel", 75, rfl, ck6, by decide, rfl, rfl, by decide, rfl, Or.inl rfl, Or.inl q1265⟩
theorem fX6_141F : tflF RX6 141 6 75 2 := ⟨RX6, TX6, 79, 75, rfl, ck6, by decide, rfl, rfl, by decide, rfl, rfl, q1265⟩
theorem fX6_144 : tfl RX6 144 6 1 0 false := ⟨RX6, TX6, 79, "TwoSeekModel", 1, rfl, ck6, by decide, rfl, rfl, by decide, rfl, Or.inl rfl, Or.inl q1191⟩
theorem fX6_147 : tfl RX6 147 6 0 0 false := ⟨RX6, TX6, 79, "TwoSeekModel", 0, rfl, ck6, by decide, rfl, rfl, by decide, rfl, Or.inl rfl, Or.inl q1190⟩
theorem fX6_150 : tfl RX6 150 6 2 1 false := ⟨RX6, TX6, 79, "TwoSeekModel", 2, rfl, ck6, by decide, rfl, rfl, by decide, rfl, Or.inl rfl, Or.inl q1192⟩
theorem fX6_181 : tfl RX6 181 6 9 0 false := ⟨RX6, TX6, 79, "TwoSeekModel", 9, rfl, ck6, by decide, rfl, rfl, by decide, rfl, Or.inl rfl, Or.inl q1199⟩
theorem fX6_184 : tfl RX6 184 6 16 0 false := ⟨RX6, TX6, 79, "TwoSeekModel", 16, rfl, ck6, by decide, rfl, rfl, by decide, rfl, Or.inl rfl, Or.inl q1206⟩
theorem fX6_187 : tfl RX6 187 6 15 0 false := ⟨RX6, TX6, 79, "TwoSeekModel", 15, rfl, ck6, by decide, rfl, rfl, by decide, rfl, Or.inl rfl, Or.inl q1205⟩
theorem fX6_193 : tfl RX6 193 6 14 0 false := ⟨RX6, TX6, 79, "TwoSeekModel", 14, rfl, ck6, by decide, rfl, rfl, by decide, rfl, Or.inl rfl, Or.inl q1204⟩
theorem fX6_199 : tfl RX6 199 6 19 1 false := ⟨RX6, TX6, 79, "TwoSeekModel", 19, rfl, ck6, by decide, rfl, rfl, by decide, rfl, Or.inl rfl, Or.inl q1209⟩
theorem fX6_206 : tfl RX6 206 6 18 0 false := ⟨RX6, TX6, 79, "TwoSeekModel", 18, rfl, ck6, by decide, rfl, rfl, by decide, rfl, Or.inl rfl, Or.inl q1208⟩
theorem fX6_212 : tfl RX6 212 6 17 0 false := ⟨RX6, TX6, 79, "TwoSeekModel", 17, rfl, ck6, by decide, rfl, rfl, by decide, rfl, Or.inl rfl, Or.inl q1207⟩
theorem fX6_246 : tfl RX6 246 6 12 0 false := ⟨RX6, TX6, 79, "TwoSeekModel", 12, rfl, ck6, by decide, rfl, rfl, by decide, rfl, Or.inl rfl, Or.inl q1202⟩
theorem fX6_249 : tfl RX6 249 6 13 0 false := ⟨RX6, TX6, 79, "TwoSeekModel", 13, rfl, ck6, by decide, rfl, rfl, by decide, rfl, Or.inl rfl, Or.inl q1203⟩
theorem fX6_266 : tfl RX6 266 6 22 0 false := ⟨RX6, TX6, 79, "TwoSeekModel", 22, rfl, ck6, by decide, rfl, rfl, by decide, rfl, Or.inl rfl, Or.inl q1212⟩
theorem fX6_282 : tfl RX6 282 6 23 0 false := ⟨RX6, TX6, 79, "TwoSeekModel", 23, rfl, ck6, by decide, rfl, rfl, by decide, rfl, Or.inl rfl, Or.inl q1213⟩
theorem fX6_288 : tfl RX6 288 6 60 5 false := ⟨RX6, TX6, 79, "TwoSeekModel", 60, rfl, ck6, by decide, rfl, rfl, by decide, rfl, Or.inl rfl, Or.inl q1250⟩
theorem fX6_292 : tfl RX6 292 6 61 5 false := ⟨RX6, TX6, 79, "TwoSeekModel", 61, rfl, ck6, by decide, rfl, rfl, by decide, rfl, Or.inl rfl, Or.inl q1251⟩
theorem fX6_295 : tfl RX6 295 6 29 5 false := ⟨RX6, TX6, 79, "TwoSeekModel", 29, rfl, ck6, by decide, rfl, rfl, by decide, rfl, Or.inl rfl, Or.inl q1219⟩
theorem fX6_298 : tfl RX6 298 6 26 0 false := ⟨RX6, TX6, 79, "TwoSeekModel", 26, rfl, ck6, by decide, rfl, rfl, by decide, rfl, Or.inl rfl, Or.inl q1216⟩
theorem fX6_301 : tfl RX6 301 6 27 0 false := ⟨RX6, TX6, 79, "TwoSeekModel", 27, rfl, ck6, by decide, rfl, rfl, by decide, rfl, Or.inl rfl, Or.inl q1217⟩
theorem fX6_304 : tfl RX6 304 6 8 0 false := ⟨RX6, TX6, 79, "TwoSeekModel", 8, rfl, ck6, by decide, rfl, rfl, by decide, rfl, Or.inl rfl, Or.inl q1198⟩
theorem fX6_326 : tfl RX6 326 6 20 0 false := ⟨RX6, TX6, 79, "TwoSeekModel", 20, rfl, ck6, by decide, rfl, rfl, by decide, rfl, Or.inl rfl, Or.inl q1210⟩
theorem fX6_329 : tfl RX6 329 6 21 0 false := ⟨RX6, TX6, 79, "TwoSeekModel", 21, rfl, ck6, by decide, rfl, rfl, by decide, rfl, Or.inl rfl, Or.inl q1211⟩
theorem fX6_332 : tfl RX6 332 6 28 5 false := ⟨RX6, TX6, 79, "TwoSeekModel", 28, rfl, ck6, by decide, rfl, rfl, by decide, rfl, Or.inl rfl, Or.inl q1218⟩
theorem fX6_335 : tfl RX6 335 6 25 0 false := ⟨RX6, TX6, 79, "TwoSeekModel", 25, rfl, ck6, by decide, rfl, rfl, by decide, rfl, Or.inl rfl, Or.inl q1215⟩
theorem fX6_338 : tfl RX6 338 6 30 5 false := ⟨RX6, TX6, 79, "TwoSeekModel", 30, rfl, ck6, by decide, rfl, rfl, by decide, rfl, Or.inl rfl, Or.inl q1220⟩
theorem fX6_341 : tfl RX6 341 6 43 0 false := ⟨RX6, TX6, 79, "TwoSeekModel", 43, rfl, ck6, by decide, rfl, rfl, by decide, rfl, Or.inl rfl, Or.inl q1233⟩
theorem fX6_425 : tfl RX6 425 6 63 1 false := ⟨RX6, TX6, 79, "TwoSeekModel", 63, rfl, ck6, by decide, rfl, rfl, by decide, rfl, Or.inl rfl, Or.inl q1253⟩
theorem fX6_431 : tfl RX6 431 6 64 1 false := ⟨RX6, TX6, 79, "TwoSeekModel", 64, rfl, ck6, by decide, rfl, rfl, by decide, rfl, Or.inl rfl, Or.inl q1254⟩
theorem fX6_438 : tfl RX6 438 6 52 0 false := ⟨RX6, TX6, 79, "TwoSeekModel", 52, rfl, ck6, by decide, rfl, rfl, by decide, rfl, Or.inl rfl, Or.inl q1242⟩
theorem fX6_441 : tfl RX6 441 6 53 0 false := ⟨RX6, TX6, 79, "TwoSeekModel", 53, rfl, ck6, by decide, rfl, rfl, by decide, rfl, Or.inl rfl, Or.inl q1243⟩
theorem fX6_477 : tfl RX6 477 6 72 0 false := ⟨RX6, TX6, 79, "TwoSeekModel", 72, rfl, ck6, by decide, rfl, rfl, by decide, rfl, Or.inl rfl, Or.inl q1262⟩
theorem fX6_480 : tfl RX6 480 6 76 1 false := ⟨RX6, TX6, 79, "TwoSeekModel", 76, rfl, ck6, by decide, rfl, rfl, by decide, rfl, Or.inl rfl, Or.inl q1266⟩
theorem fX6_483 : tfl RX6 483 6 73 0 false := ⟨RX6, TX6, 79, "TwoSeekModel", 73, rfl, ck6, by decide, rfl, rfl, by decide, rfl, Or.inl rfl, Or.inl q1263⟩
theorem fX6_494 : tfl RX6 494 6 78 1 false := ⟨RX6, TX6, 79, "TwoSeekModel", 78, rfl, ck6, by decide, rfl, rfl, by decide, rfl, Or.inl rfl, Or.inl q1268⟩
theorem fX6_497 : tfl RX6 497 6 77 1 false := ⟨RX6, TX6, 79, "TwoSeekModel", 77, rfl, ck6, by decide, rfl, rfl, by decide, rfl, Or.inl rfl, Or.inl q1267⟩
theorem fX6_514 : tfl RX6 514 6 54 0 false := ⟨RX6, TX6, 79, "TwoSeekModel", 54, rfl, ck6, by decide, rfl, rfl, by decide, rfl, Or.inl rfl, Or.inl q1244⟩
theorem fJ0_7 : tfl RJ0 7 1 0 2 false := ⟨RX1, TX1, 8, "java/lang/Throwable", 0, rfl, ck1, by decide, rfl, rfl, by decide, rfl, Or.inl rfl, Or.inl q225⟩
theorem fJ0_17 : tfl RJ0 17 1 1 2 false := ⟨RX1, TX1, 8, "java/lang/Throwable", 1, rfl, ck1, by decide, rfl, rfl, by decide, rfl, Or.inl rfl, Or.inl q226⟩
theorem fJ0_24 : tfl RJ0 24 1 2 2 false := ⟨RX1, TX1, 8, "java/lang/Throwable", 2, rfl, ck1, by decide, rfl, rfl, by decide, rfl, Or.inl rfl, Or.inl q227⟩
theorem fJ0_31 : tfl RJ0 31 1 3 2 false := ⟨RX1, TX1, 8, "java/lang/Throwable", 3, rfl, ck1, by decide, rfl, rfl, by decide, rfl, Or.inl rfl, Or.inl q224⟩
theorem fJ0_198 : tfl RJ0 198 1 4 2 false := ⟨RX1, TX1, 8, "java/lang/Throwable", 4, rfl, ck1, by decide, rfl, rfl, by decide, rfl, Or.inl rfl, Or.inl q223⟩
theorem as_25_5 : tas 25 5 := ⟨"TwoSeek$Tray", _, rfl, rfl, by decide, by decide, Or.inl rfl⟩
theorem as_26_7 : tas 26 7 := ⟨"TwoSeek$Place", _, rfl, rfl, by decide, by decide, Or.inl rfl⟩
theorem as_27_8 : tas 27 8 := ⟨"TwoSeek$Lane", _, rfl, rfl, by decide, by decide, Or.inl rfl⟩
theorem as_29_3 : tas 29 3 := ⟨"TwoSeek$Walker", _, rfl, rfl, by decide, by decide, Or.inl rfl⟩
theorem as_28_9 : tas 28 9 := ⟨"TwoSeek$Way", _, rfl, rfl, by decide, by decide, Or.inr q1870⟩
theorem as_28_10 : tas 28 10 := ⟨"TwoSeek$Way", _, rfl, rfl, by decide, by decide, Or.inr q1869⟩
theorem as_28_11 : tas 28 11 := ⟨"TwoSeek$Way", _, rfl, rfl, by decide, by decide, Or.inr q1871⟩
/-- what the fixed cells hold that nobody sets again -/
def ts_v : List (Int × Int × Int) := [(1, 0, 2), (1, 1, 3), (1, 2, 4), (1, 3, 6), (1, 4, 7), (1, 5, 8), (1, 6, 9), (1, 7, 10), (4, 0, 5), (4, 9, 3), (1, 17, 15), (1, 18, 16), (1, 19, 17), (17, 0, 18), (17, 1, 19), (17, 2, 20), (17, 3, 21), (17, 4, 22), (17, 5, 23), (17, 6, 24), (17, 7, 25), (17, 8, 26), (1, 20, 27), (27, 0, 28), (27, 1, 29), (27, 2, 30), (27, 3, 31), (27, 4, 32), (27, 5, 33), (27, 6, 34), (27, 7, 35), (27, 8, 36), (1, 21, 37), (1, 22, 38), (1, 23, 39), (1, 24, 40), (1, 25, 41), (41, 0, 42), (41, 1, 43), (1, 26, 44), (1, 32, 45), (1, 33, 46), (1, 34, 47), (1, 35, 48), (1, 36, 49), (1, 37, 50), (50, 0, 7), (50, 1, 8), (50, 2, 9), (1, 38, 51), (1, 39, 52), (52, 0, 53), (52, 1, 54), (52, 2, 55), (1, 40, 56), (1, 41, 57), (1, 42, 58), (1, 43, 59), (1, 44, 60), (2, 0, 61), (2, 1, 62), (2, 2, 63), (2, 3, 64), (65, 4, 66), (65, 5, 67), (65, 6, 68), (65, 7, 69), (65, 31, 70), (65, 32, 71), (65, 33, 72), (65, 34, 73), (65, 35, 74), (65, 36, 75), (65, 37, 76), (65, 38, 77), (65, 39, 78), (65, 40, 79), (65, 41, 80), (65, 42, 81), (65, 44, 82), (65, 45, 83), (65, 46, 84), (65, 47, 85), (65, 48, 86), (65, 49, 87), (65, 50, 88), (65, 51, 89), (65, 55, 90), (65, 56, 91), (65, 57, 92), (65, 58, 93), (65, 62, 94), (65, 65, 95), (65, 66, 96), (65, 67, 97), (65, 68, 98), (65, 69, 99), (65, 70, 100), (65, 71, 101), (65, 74, 102), (65, 75, 103)]
def ts_k : List (Int × Nat × Int) := [(1, 0, 48), (2, 25, 4), (3, 1, 8), (4, 2, 10), (5, 22, 500), (6, 28, 12), (7, 3, 4), (8, 3, 4), (9, 3, 4), (10, 20, 8), (15, 20, 8), (16, 20, 8), (17, 30, 9), (18, 20, 64), (19, 20, 64), (20, 20, 64), (21, 20, 64), (22, 20, 64), (23, 20, 64), (24, 20, 64), (25, 20, 64), (26, 20, 64), (27, 30, 9), (28, 20, 64), (29, 20, 64), (30, 20, 64), (31, 20, 64), (32, 20, 64), (33, 20, 64), (34, 20, 64), (35, 20, 64), (36, 20, 64), (37, 20, 5), (38, 20, 5), (39, 20, 5), (40, 20, 5), (41, 30, 2), (42, 20, 3), (43, 20, 3), (44, 20, 5), (45, 24, 64), (46, 20, 64), (47, 20, 8), (48, 21, 64), (49, 21, 64), (50, 29, 3), (51, 20, 3), (52, 31, 3), (53, 21, 3), (54, 21, 3), (55, 21, 3), (56, 21, 3), (57, 21, 3), (58, 21, 3), (59, 21, 3), (60, 21, 3), (61, 5, 2), (62, 5, 2), (63, 5, 2), (64, 5, 2), (65, 6, 79), (66, 20, 4), (67, 20, 4), (68, 21, 256), (69, 22, 500), (70, 20, 24), (71, 20, 24), (72, 20, 8), (73, 20, 8), (74, 20, 32), (75, 20, 32), (76, 20, 12), (77, 20, 12), (78, 20, 12), (79, 20, 12), (80, 24, 12), (81, 21, 8), (82, 20, 12), (83, 20, 288), (84, 24, 12), (85, 20, 3), (86, 20, 3), (87, 20, 3), (88, 20, 8), (89, 20, 8), (90, 20, 6), (91, 20, 5), (92, 20, 6), (93, 21, 3), (94, 24, 64), (95, 24, 64), (96, 20, 8), (97, 21, 64), (98, 21, 64), (99, 20, 3), (100, 20, 3), (101, 20, 9), (102, 21, 3), (103, 21, 6)]
def tS (μ : tm_M) : Prop := (∀ q ∈ ts_v, tm_v μ q.1 q.2.1 = q.2.2) ∧ (∀ q ∈ ts_k, tm_k μ q.1 = q.2.1 ∧ tm_n μ q.1 = q.2.2) ∧ 103 < tm_z μ
theorem sv_1_0 {μ : tm_M} (h : tS μ) : tm_v μ 1 0 = 2 := h.1 (1, 0, 2) (List.mem_of_getElem? (i := 0) rfl)
theorem sv_1_1 {μ : tm_M} (h : tS μ) : tm_v μ 1 1 = 3 := h.1 (1, 1, 3) (List.mem_of_getElem? (i := 1) rfl)
theorem sv_1_2 {μ : tm_M} (h : tS μ) : tm_v μ 1 2 = 4 := h.1 (1, 2, 4) (List.mem_of_getElem? (i := 2) rfl)
theorem sv_1_3 {μ : tm_M} (h : tS μ) : tm_v μ 1 3 = 6 := h.1 (1, 3, 6) (List.mem_of_getElem? (i := 3) rfl)
theorem sv_1_4 {μ : tm_M} (h : tS μ) : tm_v μ 1 4 = 7 := h.1 (1, 4, 7) (List.mem_of_getElem? (i := 4) rfl)
theorem sv_1_5 {μ : tm_M} (h : tS μ) : tm_v μ 1 5 = 8 := h.1 (1, 5, 8) (List.mem_of_getElem? (i := 5) rfl)
theorem sv_1_6 {μ : tm_M} (h : tS μ) : tm_v μ 1 6 = 9 := h.1 (1, 6, 9) (List.mem_of_getElem? (i := 6) rfl)
theorem sv_1_7 {μ : tm_M} (h : tS μ) : tm_v μ 1 7 = 10 := h.1 (1, 7, 10) (List.mem_of_getElem? (i := 7) rfl)
theorem sv_4_0 {μ : tm_M} (h : tS μ) : tm_v μ 4 0 = 5 := h.1 (4, 0, 5) (List.mem_of_getElem? (i := 8) rfl)
theorem sv_4_9 {μ : tm_M} (h : tS μ) : tm_v μ 4 9 = 3 := h.1 (4, 9, 3) (List.mem_of_getElem? (i := 9) rfl)
theorem sv_1_17 {μ : tm_M} (h : tS μ) : tm_v μ 1 17 = 15 := h.1 (1, 17, 15) (List.mem_of_getElem? (i := 10) rfl)
theorem sv_1_18 {μ : tm_M} (h : tS μ) : tm_v μ 1 18 = 16 := h.1 (1, 18, 16) (List.mem_of_getElem? (i := 11) rfl)
theorem sv_1_19 {μ : tm_M} (h : tS μ) : tm_v μ 1 19 = 17 := h.1 (1, 19, 17) (List.mem_of_getElem? (i := 12) rfl)
theorem sv_17_0 {μ : tm_M} (h : tS μ) : tm_v μ 17 0 = 18 := h.1 (17, 0, 18) (List.mem_of_getElem? (i := 13) rfl)
theorem sv_17_1 {μ : tm_M} (h : tS μ) : tm_v μ 17 1 = 19 := h.1 (17, 1, 19) (List.mem_of_getElem? (i := 14) rfl)
theorem sv_17_2 {μ : tm_M} (h : tS μ) : tm_v μ 17 2 = 20 := h.1 (17, 2, 20) (List.mem_of_getElem? (i := 15) rfl)
theorem sv_17_3 {μ : tm_M} (h : tS μ) : tm_v μ 17 3 = 21 := h.1 (17, 3, 21) (List.mem_of_getElem? (i := 16) rfl)
theorem sv_17_4 {μ : tm_M} (h : tS μ) : tm_v μ 17 4 = 22 := h.1 (17, 4, 22) (List.mem_of_getElem? (i := 17) rfl)
theorem sv_17_5 {μ : tm_M} (h : tS μ) : tm_v μ 17 5 = 23 := h.1 (17, 5, 23) (List.mem_of_getElem? (i := 18) rfl)
theorem sv_17_6 {μ : tm_M} (h : tS μ) : tm_v μ 17 6 = 24 := h.1 (17, 6, 24) (List.mem_of_getElem? (i := 19) rfl)
theorem sv_17_7 {μ : tm_M} (h : tS μ) : tm_v μ 17 7 = 25 := h.1 (17, 7, 25) (List.mem_of_getElem? (i := 20) rfl)
theorem sv_17_8 {μ : tm_M} (h : tS μ) : tm_v μ 17 8 = 26 := h.1 (17, 8, 26) (List.mem_of_getElem? (i := 21) rfl)
theorem sv_1_20 {μ : tm_M} (h : tS μ) : tm_v μ 1 20 = 27 := h.1 (1, 20, 27) (List.mem_of_getElem? (i := 22) rfl)
theorem sv_27_0 {μ : tm_M} (h : tS μ) : tm_v μ 27 0 = 28 := h.1 (27, 0, 28) (List.mem_of_getElem? (i := 23) rfl)
theorem sv_27_1 {μ : tm_M} (h : tS μ) : tm_v μ 27 1 = 29 := h.1 (27, 1, 29) (List.mem_of_getElem? (i := 24) rfl)
theorem sv_27_2 {μ : tm_M} (h : tS μ) : tm_v μ 27 2 = 30 := h.1 (27, 2, 30) (List.mem_of_getElem? (i := 25) rfl)
theorem sv_27_3 {μ : tm_M} (h : tS μ) : tm_v μ 27 3 = 31 := h.1 (27, 3, 31) (List.mem_of_getElem? (i := 26) rfl)
theorem sv_27_4 {μ : tm_M} (h : tS μ) : tm_v μ 27 4 = 32 := h.1 (27, 4, 32) (List.mem_of_getElem? (i := 27) rfl)
theorem sv_27_5 {μ : tm_M} (h : tS μ) : tm_v μ 27 5 = 33 := h.1 (27, 5, 33) (List.mem_of_getElem? (i := 28) rfl)
theorem sv_27_6 {μ : tm_M} (h : tS μ) : tm_v μ 27 6 = 34 := h.1 (27, 6, 34) (List.mem_of_getElem? (i := 29) rfl)
theorem sv_27_7 {μ : tm_M} (h : tS μ) : tm_v μ 27 7 = 35 := h.1 (27, 7, 35) (List.mem_of_getElem? (i := 30) rfl)
theorem sv_27_8 {μ : tm_M} (h : tS μ) : tm_v μ 27 8 = 36 := h.1 (27, 8, 36) (List.mem_of_getElem? (i := 31) rfl)
theorem sv_1_21 {μ : tm_M} (h : tS μ) : tm_v μ 1 21 = 37 := h.1 (1, 21, 37) (List.mem_of_getElem? (i := 32) rfl)
theorem sv_1_22 {μ : tm_M} (h : tS μ) : tm_v μ 1 22 = 38 := h.1 (1, 22, 38) (List.mem_of_getElem? (i := 33) rfl)
theorem sv_1_23 {μ : tm_M} (h : tS μ) : tm_v μ 1 23 = 39 := h.1 (1, 23, 39) (List.mem_of_getElem? (i := 34) rfl)
theorem sv_1_24 {μ : tm_M} (h : tS μ) : tm_v μ 1 24 = 40 := h.1 (1, 24, 40) (List.mem_of_getElem? (i := 35) rfl)
theorem sv_1_25 {μ : tm_M} (h : tS μ) : tm_v μ 1 25 = 41 := h.1 (1, 25, 41) (List.mem_of_getElem? (i := 36) rfl)
theorem sv_41_0 {μ : tm_M} (h : tS μ) : tm_v μ 41 0 = 42 := h.1 (41, 0, 42) (List.mem_of_getElem? (i := 37) rfl)
theorem sv_41_1 {μ : tm_M} (h : tS μ) : tm_v μ 41 1 = 43 := h.1 (41, 1, 43) (List.mem_of_getElem? (i := 38) rfl)
theorem sv_1_26 {μ : tm_M} (h : tS μ) : tm_v μ 1 26 = 44 := h.1 (1, 26, 44) (List.mem_of_getElem? (i := 39) rfl)
theorem sv_1_32 {μ : tm_M} (h : tS μ) : tm_v μ 1 32 = 45 := h.1 (1, 32, 45) (List.mem_of_getElem? (i := 40) rfl)
theorem sv_1_33 {μ : tm_M} (h : tS μ) : tm_v μ 1 33 = 46 := h.1 (1, 33, 46) (List.mem_of_getElem? (i := 41) rfl)
theorem sv_1_34 {μ : tm_M} (h : tS μ) : tm_v μ 1 34 = 47 := h.1 (1, 34, 47) (List.mem_of_getElem? (i := 42) rfl)
theorem sv_1_35 {μ : tm_M} (h : tS μ) : tm_v μ 1 35 = 48 := h.1 (1, 35, 48) (List.mem_of_getElem? (i := 43) rfl)
theorem sv_1_36 {μ : tm_M} (h : tS μ) : tm_v μ 1 36 = 49 := h.1 (1, 36, 49) (List.mem_of_getElem? (i := 44) rfl)
theorem sv_1_37 {μ : tm_M} (h : tS μ) : tm_v μ 1 37 = 50 := h.1 (1, 37, 50) (List.mem_of_getElem? (i := 45) rfl)
theorem sv_50_0 {μ : tm_M} (h : tS μ) : tm_v μ 50 0 = 7 := h.1 (50, 0, 7) (List.mem_of_getElem? (i := 46) rfl)
theorem sv_50_1 {μ : tm_M} (h : tS μ) : tm_v μ 50 1 = 8 := h.1 (50, 1, 8) (List.mem_of_getElem? (i := 47) rfl)
theorem sv_50_2 {μ : tm_M} (h : tS μ) : tm_v μ 50 2 = 9 := h.1 (50, 2, 9) (List.mem_of_getElem? (i := 48) rfl)
theorem sv_1_38 {μ : tm_M} (h : tS μ) : tm_v μ 1 38 = 51 := h.1 (1, 38, 51) (List.mem_of_getElem? (i := 49) rfl)
theorem sv_1_39 {μ : tm_M} (h : tS μ) : tm_v μ 1 39 = 52 := h.1 (1, 39, 52) (List.mem_of_getElem? (i := 50) rfl)
theorem sv_52_0 {μ : tm_M} (h : tS μ) : tm_v μ 52 0 = 53 := h.1 (52, 0, 53) (List.mem_of_getElem? (i := 51) rfl)
theorem sv_52_1 {μ : tm_M} (h : tS μ) : tm_v μ 52 1 = 54 := h.1 (52, 1, 54) (List.mem_of_getElem? (i := 52) rfl)
theorem sv_52_2 {μ : tm_M} (h : tS μ) : tm_v μ 52 2 = 55 := h.1 (52, 2, 55) (List.mem_of_getElem? (i := 53) rfl)
theorem sv_1_40 {μ : tm_M} (h : tS μ) : tm_v μ 1 40 = 56 := h.1 (1, 40, 56) (List.mem_of_getElem? (i := 54) rfl)
theorem sv_1_41 {μ : tm_M} (h : tS μ) : tm_v μ 1 41 = 57 := h.1 (1, 41, 57) (List.mem_of_getElem? (i := 55) rfl)
theorem sv_1_42 {μ : tm_M} (h : tS μ) : tm_v μ 1 42 = 58 := h.1 (1, 42, 58) (List.mem_of_getElem? (i := 56) rfl)
theorem sv_1_43 {μ : tm_M} (h : tS μ) : tm_v μ 1 43 = 59 := h.1 (1, 43, 59) (List.mem_of_getElem? (i := 57) rfl)
theorem sv_1_44 {μ : tm_M} (h : tS μ) : tm_v μ 1 44 = 60 := h.1 (1, 44, 60) (List.mem_of_getElem? (i := 58) rfl)
theorem sv_2_0 {μ : tm_M} (h : tS μ) : tm_v μ 2 0 = 61 := h.1 (2, 0, 61) (List.mem_of_getElem? (i := 59) rfl)
theorem sv_2_1 {μ : tm_M} (h : tS μ) : tm_v μ 2 1 = 62 := h.1 (2, 1, 62) (List.mem_of_getElem? (i := 60) rfl)
theorem sv_2_2 {μ : tm_M} (h : tS μ) : tm_v μ 2 2 = 63 := h.1 (2, 2, 63) (List.mem_of_getElem? (i := 61) rfl)
theorem sv_2_3 {μ : tm_M} (h : tS μ) : tm_v μ 2 3 = 64 := h.1 (2, 3, 64) (List.mem_of_getElem? (i := 62) rfl)
theorem sv_65_4 {μ : tm_M} (h : tS μ) : tm_v μ 65 4 = 66 := h.1 (65, 4, 66) (List.mem_of_getElem? (i := 63) rfl)
theorem sv_65_5 {μ : tm_M} (h : tS μ) : tm_v μ 65 5 = 67 := h.1 (65, 5, 67) (List.mem_of_getElem? (i := 64) rfl)
theorem sv_65_6 {μ : tm_M} (h : tS μ) : tm_v μ 65 6 = 68 := h.1 (65, 6, 68) (List.mem_of_getElem? (i := 65) rfl)
theorem sv_65_7 {μ : tm_M} (h : tS μ) : tm_v μ 65 7 = 69 := h.1 (65, 7, 69) (List.mem_of_getElem? (i := 66) rfl)
theorem sv_65_31 {μ : tm_M} (h : tS μ) : tm_v μ 65 31 = 70 := h.1 (65, 31, 70) (List.mem_of_getElem? (i := 67) rfl)
theorem sv_65_32 {μ : tm_M} (h : tS μ) : tm_v μ 65 32 = 71 := h.1 (65, 32, 71) (List.mem_of_getElem? (i := 68) rfl)
theorem sv_65_33 {μ : tm_M} (h : tS μ) : tm_v μ 65 33 = 72 := h.1 (65, 33, 72) (List.mem_of_getElem? (i := 69) rfl)
theorem sv_65_34 {μ : tm_M} (h : tS μ) : tm_v μ 65 34 = 73 := h.1 (65, 34, 73) (List.mem_of_getElem? (i := 70) rfl)
theorem sv_65_35 {μ : tm_M} (h : tS μ) : tm_v μ 65 35 = 74 := h.1 (65, 35, 74) (List.mem_of_getElem? (i := 71) rfl)
theorem sv_65_36 {μ : tm_M} (h : tS μ) : tm_v μ 65 36 = 75 := h.1 (65, 36, 75) (List.mem_of_getElem? (i := 72) rfl)
theorem sv_65_37 {μ : tm_M} (h : tS μ) : tm_v μ 65 37 = 76 := h.1 (65, 37, 76) (List.mem_of_getElem? (i := 73) rfl)
theorem sv_65_38 {μ : tm_M} (h : tS μ) : tm_v μ 65 38 = 77 := h.1 (65, 38, 77) (List.mem_of_getElem? (i := 74) rfl)
theorem sv_65_39 {μ : tm_M} (h : tS μ) : tm_v μ 65 39 = 78 := h.1 (65, 39, 78) (List.mem_of_getElem? (i := 75) rfl)
theorem sv_65_40 {μ : tm_M} (h : tS μ) : tm_v μ 65 40 = 79 := h.1 (65, 40, 79) (List.mem_of_getElem? (i := 76) rfl)
theorem sv_65_41 {μ : tm_M} (h : tS μ) : tm_v μ 65 41 = 80 := h.1 (65, 41, 80) (List.mem_of_getElem? (i := 77) rfl)
theorem sv_65_42 {μ : tm_M} (h : tS μ) : tm_v μ 65 42 = 81 := h.1 (65, 42, 81) (List.mem_of_getElem? (i := 78) rfl)
theorem sv_65_44 {μ : tm_M} (h : tS μ) : tm_v μ 65 44 = 82 := h.1 (65, 44, 82) (List.mem_of_getElem? (i := 79) rfl)
theorem sv_65_45 {μ : tm_M} (h : tS μ) : tm_v μ 65 45 = 83 := h.1 (65, 45, 83) (List.mem_of_getElem? (i := 80) rfl)
theorem sv_65_46 {μ : tm_M} (h : tS μ) : tm_v μ 65 46 = 84 := h.1 (65, 46, 84) (List.mem_of_getElem? (i := 81) rfl)
theorem sv_65_47 {μ : tm_M} (h : tS μ) : tm_v μ 65 47 = 85 := h.1 (65, 47, 85) (List.mem_of_getElem? (i := 82) rfl)
theorem sv_65_48 {μ : tm_M} (h : tS μ) : tm_v μ 65 48 = 86 := h.1 (65, 48, 86) (List.mem_of_getElem? (i := 83) rfl)
theorem sv_65_49 {μ : tm_M} (h : tS μ) : tm_v μ 65 49 = 87 := h.1 (65, 49, 87) (List.mem_of_getElem? (i := 84) rfl)
theorem sv_65_50 {μ : tm_M} (h : tS μ) : tm_v μ 65 50 = 88 := h.1 (65, 50, 88) (List.mem_of_getElem? (i := 85) rfl)
theorem sv_65_51 {μ : tm_M} (h : tS μ) : tm_v μ 65 51 = 89 := h.1 (65, 51, 89) (List.mem_of_getElem? (i := 86) rfl)
theorem sv_65_55 {μ : tm_M} (h : tS μ) : tm_v μ 65 55 = 90 := h.1 (65, 55, 90) (List.mem_of_getElem? (i := 87) rfl)
theorem sv_65_56 {μ : tm_M} (h : tS μ) : tm_v μ 65 56 = 91 := h.1 (65, 56, 91) (List.mem_of_getElem? (i := 88) rfl)
theorem sv_65_57 {μ : tm_M} (h : tS μ) : tm_v μ 65 57 = 92 := h.1 (65, 57, 92) (List.mem_of_getElem? (i := 89) rfl)
theorem sv_65_58 {μ : tm_M} (h : tS μ) : tm_v μ 65 58 = 93 := h.1 (65, 58, 93) (List.mem_of_getElem? (i := 90) rfl)
theorem sv_65_62 {μ : tm_M} (h : tS μ) : tm_v μ 65 62 = 94 := h.1 (65, 62, 94) (List.mem_of_getElem? (i := 91) rfl)
theorem sv_65_65 {μ : tm_M} (h : tS μ) : tm_v μ 65 65 = 95 := h.1 (65, 65, 95) (List.mem_of_getElem? (i := 92) rfl)
theorem sv_65_66 {μ : tm_M} (h : tS μ) : tm_v μ 65 66 = 96 := h.1 (65, 66, 96) (List.mem_of_getElem? (i := 93) rfl)
theorem sv_65_67 {μ : tm_M} (h : tS μ) : tm_v μ 65 67 = 97 := h.1 (65, 67, 97) (List.mem_of_getElem? (i := 94) rfl)
theorem sv_65_68 {μ : tm_M} (h : tS μ) : tm_v μ 65 68 = 98 := h.1 (65, 68, 98) (List.mem_of_getElem? (i := 95) rfl)
theorem sv_65_69 {μ : tm_M} (h : tS μ) : tm_v μ 65 69 = 99 := h.1 (65, 69, 99) (List.mem_of_getElem? (i := 96) rfl)
theorem sv_65_70 {μ : tm_M} (h : tS μ) : tm_v μ 65 70 = 100 := h.1 (65, 70, 100) (List.mem_of_getElem? (i := 97) rfl)
theorem sv_65_71 {μ : tm_M} (h : tS μ) : tm_v μ 65 71 = 101 := h.1 (65, 71, 101) (List.mem_of_getElem? (i := 98) rfl)
theorem sv_65_74 {μ : tm_M} (h : tS μ) : tm_v μ 65 74 = 102 := h.1 (65, 74, 102) (List.mem_of_getElem? (i := 99) rfl)
theorem sv_65_75 {μ : tm_M} (h : tS μ) : tm_v μ 65 75 = 103 := h.1 (65, 75, 103) (List.mem_of_getElem? (i := 100) rfl)
theorem sk_1 {μ : tm_M} (h : tS μ) : tm_k μ 1 = 0 := (h.2.1 (1, 0, 48) (List.mem_of_getElem? (i := 0) rfl)).1
theorem sn_1 {μ : tm_M} (h : tS μ) : tm_n μ 1 = 48 := (h.2.1 (1, 0, 48) (List.mem_of_getElem? (i := 0) rfl)).2
theorem sk_2 {μ : tm_M} (h : tS μ) : tm_k μ 2 = 25 := (h.2.1 (2, 25, 4) (List.mem_of_getElem? (i := 1) rfl)).1
theorem sn_2 {μ : tm_M} (h : tS μ) : tm_n μ 2 = 4 := (h.2.1 (2, 25, 4) (List.mem_of_getElem? (i := 1) rfl)).2
theorem sk_3 {μ : tm_M} (h : tS μ) : tm_k μ 3 = 1 := (h.2.1 (3, 1, 8) (List.mem_of_getElem? (i := 2) rfl)).1
theorem sn_3 {μ : tm_M} (h : tS μ) : tm_n μ 3 = 8 := (h.2.1 (3, 1, 8) (List.mem_of_getElem? (i := 2) rfl)).2
theorem sk_4 {μ : tm_M} (h : tS μ) : tm_k μ 4 = 2 := (h.2.1 (4, 2, 10) (List.mem_of_getElem? (i := 3) rfl)).1
theorem sn_4 {μ : tm_M} (h : tS μ) : tm_n μ 4 = 10 := (h.2.1 (4, 2, 10) (List.mem_of_getElem? (i := 3) rfl)).2
theorem sk_5 {μ : tm_M} (h : tS μ) : tm_k μ 5 = 22 := (h.2.1 (5, 22, 500) (List.mem_of_getElem? (i := 4) rfl)).1
theorem sn_5 {μ : tm_M} (h : tS μ) : tm_n μ 5 = 500 := (h.2.1 (5, 22, 500) (List.mem_of_getElem? (i := 4) rfl)).2
theorem sk_6 {μ : tm_M} (h : tS μ) : tm_k μ 6 = 28 := (h.2.1 (6, 28, 12) (List.mem_of_getElem? (i := 5) rfl)).1
theorem sn_6 {μ : tm_M} (h : tS μ) : tm_n μ 6 = 12 := (h.2.1 (6, 28, 12) (List.mem_of_getElem? (i := 5) rfl)).2
theorem sk_7 {μ : tm_M} (h : tS μ) : tm_k μ 7 = 3 := (h.2.1 (7, 3, 4) (List.mem_of_getElem? (i := 6) rfl)).1
theorem sn_7 {μ : tm_M} (h : tS μ) : tm_n μ 7 = 4 := (h.2.1 (7, 3, 4) (List.mem_of_getElem? (i := 6) rfl)).2
theorem sk_8 {μ : tm_M} (h : tS μ) : tm_k μ 8 = 3 := (h.2.1 (8, 3, 4) (List.mem_of_getElem? (i := 7) rfl)).1
theorem sn_8 {μ : tm_M} (h : tS μ) : tm_n μ 8 = 4 := (h.2.1 (8, 3, 4) (List.mem_of_getElem? (i := 7) rfl)).2
theorem sk_9 {μ : tm_M} (h : tS μ) : tm_k μ 9 = 3 := (h.2.1 (9, 3, 4) (List.mem_of_getElem? (i := 8) rfl)).1
theorem sn_9 {μ : tm_M} (h : tS μ) : tm_n μ 9 = 4 := (h.2.1 (9, 3, 4) (List.mem_of_getElem? (i := 8) rfl)).2
theorem sk_10 {μ : tm_M} (h : tS μ) : tm_k μ 10 = 20 := (h.2.1 (10, 20, 8) (List.mem_of_getElem? (i := 9) rfl)).1
theorem sn_10 {μ : tm_M} (h : tS μ) : tm_n μ 10 = 8 := (h.2.1 (10, 20, 8) (List.mem_of_getElem? (i := 9) rfl)).2
theorem sk_15 {μ : tm_M} (h : tS μ) : tm_k μ 15 = 20 := (h.2.1 (15, 20, 8) (List.mem_of_getElem? (i := 10) rfl)).1
theorem sn_15 {μ : tm_M} (h : tS μ) : tm_n μ 15 = 8 := (h.2.1 (15, 20, 8) (List.mem_of_getElem? (i := 10) rfl)).2
theorem sk_16 {μ : tm_M} (h : tS μ) : tm_k μ 16 = 20 := (h.2.1 (16, 20, 8) (List.mem_of_getElem? (i := 11) rfl)).1
theorem sn_16 {μ : tm_M} (h : tS μ) : tm_n μ 16 = 8 := (h.2.1 (16, 20, 8) (List.mem_of_getElem? (i := 11) rfl)).2
theorem sk_17 {μ : tm_M} (h : tS μ) : tm_k μ 17 = 30 := (h.2.1 (17, 30, 9) (List.mem_of_getElem? (i := 12) rfl)).1
theorem sn_17 {μ : tm_M} (h : tS μ) : tm_n μ 17 = 9 := (h.2.1 (17, 30, 9) (List.mem_of_getElem? (i := 12) rfl)).2
theorem sk_18 {μ : tm_M} (h : tS μ) : tm_k μ 18 = 20 := (h.2.1 (18, 20, 64) (List.mem_of_getElem? (i := 13) rfl)).1
theorem sn_18 {μ : tm_M} (h : tS μ) : tm_n μ 18 = 64 := (h.2.1 (18, 20, 64) (List.mem_of_getElem? (i := 13) rfl)).2
theorem sk_19 {μ : tm_M} (h : tS μ) : tm_k μ 19 = 20 := (h.2.1 (19, 20, 64) (List.mem_of_getElem? (i := 14) rfl)).1
theorem sn_19 {μ : tm_M} (h : tS μ) : tm_n μ 19 = 64 := (h.2.1 (19, 20, 64) (List.mem_of_getElem? (i := 14) rfl)).2
theorem sk_20 {μ : tm_M} (h : tS μ) : tm_k μ 20 = 20 := (h.2.1 (20, 20, 64) (List.mem_of_getElem? (i := 15) rfl)).1
theorem sn_20 {μ : tm_M} (h : tS μ) : tm_n μ 20 = 64 := (h.2.1 (20, 20, 64) (List.mem_of_getElem? (i := 15) rfl)).2
theorem sk_21 {μ : tm_M} (h : tS μ) : tm_k μ 21 = 20 := (h.2.1 (21, 20, 64) (List.mem_of_getElem? (i := 16) rfl)).1
theorem sn_21 {μ : tm_M} (h : tS μ) : tm_n μ 21 = 64 := (h.2.1 (21, 20, 64) (List.mem_of_getElem? (i := 16) rfl)).2
theorem sk_22 {μ : tm_M} (h : tS μ) : tm_k μ 22 = 20 := (h.2.1 (22, 20, 64) (List.mem_of_getElem? (i := 17) rfl)).1
theorem sn_22 {μ : tm_M} (h : tS μ) : tm_n μ 22 = 64 := (h.2.1 (22, 20, 64) (List.mem_of_getElem? (i := 17) rfl)).2
theorem sk_23 {μ : tm_M} (h : tS μ) : tm_k μ 23 = 20 := (h.2.1 (23, 20, 64) (List.mem_of_getElem? (i := 18) rfl)).1
theorem sn_23 {μ : tm_M} (h : tS μ) : tm_n μ 23 = 64 := (h.2.1 (23, 20, 64) (List.mem_of_getElem? (i := 18) rfl)).2
theorem sk_24 {μ : tm_M} (h : tS μ) : tm_k μ 24 = 20 := (h.2.1 (24, 20, 64) (List.mem_of_getElem? (i := 19) rfl)).1
theorem sn_24 {μ : tm_M} (h : tS μ) : tm_n μ 24 = 64 := (h.2.1 (24, 20, 64) (List.mem_of_getElem? (i := 19) rfl)).2
theorem sk_25 {μ : tm_M} (h : tS μ) : tm_k μ 25 = 20 := (h.2.1 (25, 20, 64) (List.mem_of_getElem? (i := 20) rfl)).1
theorem sn_25 {μ : tm_M} (h : tS μ) : tm_n μ 25 = 64 := (h.2.1 (25, 20, 64) (List.mem_of_getElem? (i := 20) rfl)).2
theorem sk_26 {μ : tm_M} (h : tS μ) : tm_k μ 26 = 20 := (h.2.1 (26, 20, 64) (List.mem_of_getElem? (i := 21) rfl)).1
theorem sn_26 {μ : tm_M} (h : tS μ) : tm_n μ 26 = 64 := (h.2.1 (26, 20, 64) (List.mem_of_getElem? (i := 21) rfl)).2
theorem sk_27 {μ : tm_M} (h : tS μ) : tm_k μ 27 = 30 := (h.2.1 (27, 30, 9) (List.mem_of_getElem? (i := 22) rfl)).1
theorem sn_27 {μ : tm_M} (h : tS μ) : tm_n μ 27 = 9 := (h.2.1 (27, 30, 9) (List.mem_of_getElem? (i := 22) rfl)).2
theorem sk_28 {μ : tm_M} (h : tS μ) : tm_k μ 28 = 20 := (h.2.1 (28, 20, 64) (List.mem_of_getElem? (i := 23) rfl)).1
theorem sn_28 {μ : tm_M} (h : tS μ) : tm_n μ 28 = 64 := (h.2.1 (28, 20, 64) (List.mem_of_getElem? (i := 23) rfl)).2
theorem sk_29 {μ : tm_M} (h : tS μ) : tm_k μ 29 = 20 := (h.2.1 (29, 20, 64) (List.mem_of_getElem? (i := 24) rfl)).1
theorem sn_29 {μ : tm_M} (h : tS μ) : tm_n μ 29 = 64 := (h.2.1 (29, 20, 64) (List.mem_of_getElem? (i := 24) rfl)).2
theorem sk_30 {μ : tm_M} (h : tS μ) : tm_k μ 30 = 20 := (h.2.1 (30, 20, 64) (List.mem_of_getElem? (i := 25) rfl)).1
theorem sn_30 {μ : tm_M} (h : tS μ) : tm_n μ 30 = 64 := (h.2.1 (30, 20, 64) (List.mem_of_getElem? (i := 25) rfl)).2
theorem sk_31 {μ : tm_M} (h : tS μ) : tm_k μ 31 = 20 := (h.2.1 (31, 20, 64) (List.mem_of_getElem? (i := 26) rfl)).1
theorem sn_31 {μ : tm_M} (h : tS μ) : tm_n μ 31 = 64 := (h.2.1 (31, 20, 64) (List.mem_of_getElem? (i := 26) rfl)).2
theorem sk_32 {μ : tm_M} (h : tS μ) : tm_k μ 32 = 20 := (h.2.1 (32, 20, 64) (List.mem_of_getElem? (i := 27) rfl)).1
theorem sn_32 {μ : tm_M} (h : tS μ) : tm_n μ 32 = 64 := (h.2.1 (32, 20, 64) (List.mem_of_getElem? (i := 27) rfl)).2
theorem sk_33 {μ : tm_M} (h : tS μ) : tm_k μ 33 = 20 := (h.2.1 (33, 20, 64) (List.mem_of_getElem? (i := 28) rfl)).1
theorem sn_33 {μ : tm_M} (h : tS μ) : tm_n μ 33 = 64 := (h.2.1 (33, 20, 64) (List.mem_of_getElem? (i := 28) rfl)).2
theorem sk_34 {μ : tm_M} (h : tS μ) : tm_k μ 34 = 20 := (h.2.1 (34, 20, 64) (List.mem_of_getElem? (i := 29) rfl)).1
theorem sn_34 {μ : tm_M} (h : tS μ) : tm_n μ 34 = 64 := (h.2.1 (34, 20, 64) (List.mem_of_getElem? (i := 29) rfl)).2
theorem sk_35 {μ : tm_M} (h : tS μ) : tm_k μ 35 = 20 := (h.2.1 (35, 20, 64) (List.mem_of_getElem? (i := 30) rfl)).1
theorem sn_35 {μ : tm_M} (h : tS μ) : tm_n μ 35 = 64 := (h.2.1 (35, 20, 64) (List.mem_of_getElem? (i := 30) rfl)).2
theorem sk_36 {μ : tm_M} (h : tS μ) : tm_k μ 36 = 20 := (h.2.1 (36, 20, 64) (List.mem_of_getElem? (i := 31) rfl)).1
theorem sn_36 {μ : tm_M} (h : tS μ) : tm_n μ 36 = 64 := (h.2.1 (36, 20, 64) (List.mem_of_getElem? (i := 31) rfl)).2
theorem sk_37 {μ : tm_M} (h : tS μ) : tm_k μ 37 = 20 := (h.2.1 (37, 20, 5) (List.mem_of_getElem? (i := 32) rfl)).1
theorem sn_37 {μ : tm_M} (h : tS μ) : tm_n μ 37 = 5 := (h.2.1 (37, 20, 5) (List.mem_of_getElem? (i := 32) rfl)).2
theorem sk_38 {μ : tm_M} (h : tS μ) : tm_k μ 38 = 20 := (h.2.1 (38, 20, 5) (List.mem_of_getElem? (i := 33) rfl)).1
theorem sn_38 {μ : tm_M} (h : tS μ) : tm_n μ 38 = 5 := (h.2.1 (38, 20, 5) (List.mem_of_getElem? (i := 33) rfl)).2
theorem sk_39 {μ : tm_M} (h : tS μ) : tm_k μ 39 = 20 := (h.2.1 (39, 20, 5) (List.mem_of_getElem? (i := 34) rfl)).1
theorem sn_39 {μ : tm_M} (h : tS μ) : tm_n μ 39 = 5 := (h.2.1 (39, 20, 5) (List.mem_of_getElem? (i := 34) rfl)).2
theorem sk_40 {μ : tm_M} (h : tS μ) : tm_k μ 40 = 20 := (h.2.1 (40, 20, 5) (List.mem_of_getElem? (i := 35) rfl)).1
theorem sn_40 {μ : tm_M} (h : tS μ) : tm_n μ 40 = 5 := (h.2.1 (40, 20, 5) (List.mem_of_getElem? (i := 35) rfl)).2
theorem sk_41 {μ : tm_M} (h : tS μ) : tm_k μ 41 = 30 := (h.2.1 (41, 30, 2) (List.mem_of_getElem? (i := 36) rfl)).1
theorem sn_41 {μ : tm_M} (h : tS μ) : tm_n μ 41 = 2 := (h.2.1 (41, 30, 2) (List.mem_of_getElem? (i := 36) rfl)).2
theorem sk_42 {μ : tm_M} (h : tS μ) : tm_k μ 42 = 20 := (h.2.1 (42, 20, 3) (List.mem_of_getElem? (i := 37) rfl)).1
theorem sn_42 {μ : tm_M} (h : tS μ) : tm_n μ 42 = 3 := (h.2.1 (42, 20, 3) (List.mem_of_getElem? (i := 37) rfl)).2
theorem sk_43 {μ : tm_M} (h : tS μ) : tm_k μ 43 = 20 := (h.2.1 (43, 20, 3) (List.mem_of_getElem? (i := 38) rfl)).1
theorem sn_43 {μ : tm_M} (h : tS μ) : tm_n μ 43 = 3 := (h.2.1 (43, 20, 3) (List.mem_of_getElem? (i := 38) rfl)).2
theorem sk_44 {μ : tm_M} (h : tS μ) : tm_k μ 44 = 20 := (h.2.1 (44, 20, 5) (List.mem_of_getElem? (i := 39) rfl)).1
theorem sn_44 {μ : tm_M} (h : tS μ) : tm_n μ 44 = 5 := (h.2.1 (44, 20, 5) (List.mem_of_getElem? (i := 39) rfl)).2
theorem sk_45 {μ : tm_M} (h : tS μ) : tm_k μ 45 = 24 := (h.2.1 (45, 24, 64) (List.mem_of_getElem? (i := 40) rfl)).1
theorem sn_45 {μ : tm_M} (h : tS μ) : tm_n μ 45 = 64 := (h.2.1 (45, 24, 64) (List.mem_of_getElem? (i := 40) rfl)).2
theorem sk_46 {μ : tm_M} (h : tS μ) : tm_k μ 46 = 20 := (h.2.1 (46, 20, 64) (List.mem_of_getElem? (i := 41) rfl)).1
theorem sn_46 {μ : tm_M} (h : tS μ) : tm_n μ 46 = 64 := (h.2.1 (46, 20, 64) (List.mem_of_getElem? (i := 41) rfl)).2
theorem sk_47 {μ : tm_M} (h : tS μ) : tm_k μ 47 = 20 := (h.2.1 (47, 20, 8) (List.mem_of_getElem? (i := 42) rfl)).1
theorem sn_47 {μ : tm_M} (h : tS μ) : tm_n μ 47 = 8 := (h.2.1 (47, 20, 8) (List.mem_of_getElem? (i := 42) rfl)).2
theorem sk_48 {μ : tm_M} (h : tS μ) : tm_k μ 48 = 21 := (h.2.1 (48, 21, 64) (List.mem_of_getElem? (i := 43) rfl)).1
theorem sn_48 {μ : tm_M} (h : tS μ) : tm_n μ 48 = 64 := (h.2.1 (48, 21, 64) (List.mem_of_getElem? (i := 43) rfl)).2
theorem sk_49 {μ : tm_M} (h : tS μ) : tm_k μ 49 = 21 := (h.2.1 (49, 21, 64) (List.mem_of_getElem? (i := 44) rfl)).1
theorem sn_49 {μ : tm_M} (h : tS μ) : tm_n μ 49 = 64 := (h.2.1 (49, 21, 64) (List.mem_of_getElem? (i := 44) rfl)).2
theorem sk_50 {μ : tm_M} (h : tS μ) : tm_k μ 50 = 29 := (h.2.1 (50, 29, 3) (List.mem_of_getElem? (i := 45) rfl)).1
theorem sn_50 {μ : tm_M} (h : tS μ) : tm_n μ 50 = 3 := (h.2.1 (50, 29, 3) (List.mem_of_getElem? (i := 45) rfl)).2
theorem sk_51 {μ : tm_M} (h : tS μ) : tm_k μ 51 = 20 := (h.2.1 (51, 20, 3) (List.mem_of_getElem? (i := 46) rfl)).1
theorem sn_51 {μ : tm_M} (h : tS μ) : tm_n μ 51 = 3 := (h.2.1 (51, 20, 3) (List.mem_of_getElem? (i := 46) rfl)).2
theorem sk_52 {μ : tm_M} (h : tS μ) : tm_k μ 52 = 31 := (h.2.1 (52, 31, 3) (List.mem_of_getElem? (i := 47) rfl)).1
theorem sn_52 {μ : tm_M} (h : tS μ) : tm_n μ 52 = 3 := (h.2.1 (52, 31, 3) (List.mem_of_getElem? (i := 47) rfl)).2
theorem sk_53 {μ : tm_M} (h : tS μ) : tm_k μ 53 = 21 := (h.2.1 (53, 21, 3) (List.mem_of_getElem? (i := 48) rfl)).1
theorem sn_53 {μ : tm_M} (h : tS μ) : tm_n μ 53 = 3 := (h.2.1 (53, 21, 3) (List.mem_of_getElem? (i := 48) rfl)).2
theorem sk_54 {μ : tm_M} (h : tS μ) : tm_k μ 54 = 21 := (h.2.1 (54, 21, 3) (List.mem_of_getElem? (i := 49) rfl)).1
theorem sn_54 {μ : tm_M} (h : tS μ) : tm_n μ 54 = 3 := (h.2.1 (54, 21, 3) (List.mem_of_getElem? (i := 49) rfl)).2
theorem sk_55 {μ : tm_M} (h : tS μ) : tm_k μ 55 = 21 := (h.2.1 (55, 21, 3) (List.mem_of_getElem? (i := 50) rfl)).1
theorem sn_55 {μ : tm_M} (h : tS μ) : tm_n μ 55 = 3 := (h.2.1 (55, 21, 3) (List.mem_of_getElem? (i := 50) rfl)).2
theorem sk_56 {μ : tm_M} (h : tS μ) : tm_k μ 56 = 21 := (h.2.1 (56, 21, 3) (List.mem_of_getElem? (i := 51) rfl)).1
theorem sn_56 {μ : tm_M} (h : tS μ) : tm_n μ 56 = 3 := (h.2.1 (56, 21, 3) (List.mem_of_getElem? (i := 51) rfl)).2
theorem sk_57 {μ : tm_M} (h : tS μ) : tm_k μ 57 = 21 := (h.2.1 (57, 21, 3) (List.mem_of_getElem? (i := 52) rfl)).1
theorem sn_57 {μ : tm_M} (h : tS μ) : tm_n μ 57 = 3 := (h.2.1 (57, 21, 3) (List.mem_of_getElem? (i := 52) rfl)).2
theorem sk_58 {μ : tm_M} (h : tS μ) : tm_k μ 58 = 21 := (h.2.1 (58, 21, 3) (List.mem_of_getElem? (i := 53) rfl)).1
theorem sn_58 {μ : tm_M} (h : tS μ) : tm_n μ 58 = 3 := (h.2.1 (58, 21, 3) (List.mem_of_getElem? (i := 53) rfl)).2
theorem sk_59 {μ : tm_M} (h : tS μ) : tm_k μ 59 = 21 := (h.2.1 (59, 21, 3) (List.mem_of_getElem? (i := 54) rfl)).1
theorem sn_59 {μ : tm_M} (h : tS μ) : tm_n μ 59 = 3 := (h.2.1 (59, 21, 3) (List.mem_of_getElem? (i := 54) rfl)).2
theorem sk_60 {μ : tm_M} (h : tS μ) : tm_k μ 60 = 21 := (h.2.1 (60, 21, 3) (List.mem_of_getElem? (i := 55) rfl)).1
theorem sn_60 {μ : tm_M} (h : tS μ) : tm_n μ 60 = 3 := (h.2.1 (60, 21, 3) (List.mem_of_getElem? (i := 55) rfl)).2
theorem sk_61 {μ : tm_M} (h : tS μ) : tm_k μ 61 = 5 := (h.2.1 (61, 5, 2) (List.mem_of_getElem? (i := 56) rfl)).1
theorem sn_61 {μ : tm_M} (h : tS μ) : tm_n μ 61 = 2 := (h.2.1 (61, 5, 2) (List.mem_of_getElem? (i := 56) rfl)).2
theorem sk_62 {μ : tm_M} (h : tS μ) : tm_k μ 62 = 5 := (h.2.1 (62, 5, 2) (List.mem_of_getElem? (i := 57) rfl)).1
theorem sn_62 {μ : tm_M} (h : tS μ) : tm_n μ 62 = 2 := (h.2.1 (62, 5, 2) (List.mem_of_getElem? (i := 57) rfl)).2
theorem sk_63 {μ : tm_M} (h : tS μ) : tm_k μ 63 = 5 := (h.2.1 (63, 5, 2) (List.mem_of_getElem? (i := 58) rfl)).1
theorem sn_63 {μ : tm_M} (h : tS μ) : tm_n μ 63 = 2 := (h.2.1 (63, 5, 2) (List.mem_of_getElem? (i := 58) rfl)).2
theorem sk_64 {μ : tm_M} (h : tS μ) : tm_k μ 64 = 5 := (h.2.1 (64, 5, 2) (List.mem_of_getElem? (i := 59) rfl)).1
theorem sn_64 {μ : tm_M} (h : tS μ) : tm_n μ 64 = 2 := (h.2.1 (64, 5, 2) (List.mem_of_getElem? (i := 59) rfl)).2
theorem sk_65 {μ : tm_M} (h : tS μ) : tm_k μ 65 = 6 := (h.2.1 (65, 6, 79) (List.mem_of_getElem? (i := 60) rfl)).1
theorem sn_65 {μ : tm_M} (h : tS μ) : tm_n μ 65 = 79 := (h.2.1 (65, 6, 79) (List.mem_of_getElem? (i := 60) rfl)).2
theorem sk_66 {μ : tm_M} (h : tS μ) : tm_k μ 66 = 20 := (h.2.1 (66, 20, 4) (List.mem_of_getElem? (i := 61) rfl)).1
theorem sn_66 {μ : tm_M} (h : tS μ) : tm_n μ 66 = 4 := (h.2.1 (66, 20, 4) (List.mem_of_getElem? (i := 61) rfl)).2
theorem sk_67 {μ : tm_M} (h : tS μ) : tm_k μ 67 = 20 := (h.2.1 (67, 20, 4) (List.mem_of_getElem? (i := 62) rfl)).1
theorem sn_67 {μ : tm_M} (h : tS μ) : tm_n μ 67 = 4 := (h.2.1 (67, 20, 4) (List.mem_of_getElem? (i := 62) rfl)).2
theorem sk_68 {μ : tm_M} (h : tS μ) : tm_k μ 68 = 21 := (h.2.1 (68, 21, 256) (List.mem_of_getElem? (i := 63) rfl)).1
theorem sn_68 {μ : tm_M} (h : tS μ) : tm_n μ 68 = 256 := (h.2.1 (68, 21, 256) (List.mem_of_getElem? (i := 63) rfl)).2
theorem sk_69 {μ : tm_M} (h : tS μ) : tm_k μ 69 = 22 := (h.2.1 (69, 22, 500) (List.mem_of_getElem? (i := 64) rfl)).1
theorem sn_69 {μ : tm_M} (h : tS μ) : tm_n μ 69 = 500 := (h.2.1 (69, 22, 500) (List.mem_of_getElem? (i := 64) rfl)).2
theorem sk_70 {μ : tm_M} (h : tS μ) : tm_k μ 70 = 20 := (h.2.1 (70, 20, 24) (List.mem_of_getElem? (i := 65) rfl)).1
theorem sn_70 {μ : tm_M} (h : tS μ) : tm_n μ 70 = 24 := (h.2.1 (70, 20, 24) (List.mem_of_getElem? (i := 65) rfl)).2
theorem sk_71 {μ : tm_M} (h : tS μ) : tm_k μ 71 = 20 := (h.2.1 (71, 20, 24) (List.mem_of_getElem? (i := 66) rfl)).1
theorem sn_71 {μ : tm_M} (h : tS μ) : tm_n μ 71 = 24 := (h.2.1 (71, 20, 24) (List.mem_of_getElem? (i := 66) rfl)).2
theorem sk_72 {μ : tm_M} (h : tS μ) : tm_k μ 72 = 20 := (h.2.1 (72, 20, 8) (List.mem_of_getElem? (i := 67) rfl)).1
theorem sn_72 {μ : tm_M} (h : tS μ) : tm_n μ 72 = 8 := (h.2.1 (72, 20, 8) (List.mem_of_getElem? (i := 67) rfl)).2
theorem sk_73 {μ : tm_M} (h : tS μ) : tm_k μ 73 = 20 := (h.2.1 (73, 20, 8) (List.mem_of_getElem? (i := 68) rfl)).1
theorem sn_73 {μ : tm_M} (h : tS μ) : tm_n μ 73 = 8 := (h.2.1 (73, 20, 8) (List.mem_of_getElem? (i := 68) rfl)).2
theorem sk_74 {μ : tm_M} (h : tS μ) : tm_k μ 74 = 20 := (h.2.1 (74, 20, 32) (List.mem_of_getElem? (i := 69) rfl)).1
theorem sn_74 {μ : tm_M} (h : tS μ) : tm_n μ 74 = 32 := (h.2.1 (74, 20, 32) (List.mem_of_getElem? (i := 69) rfl)).2
theorem sk_75 {μ : tm_M} (h : tS μ) : tm_k μ 75 = 20 := (h.2.1 (75, 20, 32) (List.mem_of_getElem? (i := 70) rfl)).1
theorem sn_75 {μ : tm_M} (h : tS μ) : tm_n μ 75 = 32 := (h.2.1 (75, 20, 32) (List.mem_of_getElem? (i := 70) rfl)).2
theorem sk_76 {μ : tm_M} (h : tS μ) : tm_k μ 76 = 20 := (h.2.1 (76, 20, 12) (List.mem_of_getElem? (i := 71) rfl)).1
theorem sn_76 {μ : tm_M} (h : tS μ) : tm_n μ 76 = 12 := (h.2.1 (76, 20, 12) (List.mem_of_getElem? (i := 71) rfl)).2
theorem sk_77 {μ : tm_M} (h : tS μ) : tm_k μ 77 = 20 := (h.2.1 (77, 20, 12) (List.mem_of_getElem? (i := 72) rfl)).1
theorem sn_77 {μ : tm_M} (h : tS μ) : tm_n μ 77 = 12 := (h.2.1 (77, 20, 12) (List.mem_of_getElem? (i := 72) rfl)).2
theorem sk_78 {μ : tm_M} (h : tS μ) : tm_k μ 78 = 20 := (h.2.1 (78, 20, 12) (List.mem_of_getElem? (i := 73) rfl)).1
theorem sn_78 {μ : tm_M} (h : tS μ) : tm_n μ 78 = 12 := (h.2.1 (78, 20, 12) (List.mem_of_getElem? (i := 73) rfl)).2
theorem sk_79 {μ : tm_M} (h : tS μ) : tm_k μ 79 = 20 := (h.2.1 (79, 20, 12) (List.mem_of_getElem? (i := 74) rfl)).1
theorem sn_79 {μ : tm_M} (h : tS μ) : tm_n μ 79 = 12 := (h.2.1 (79, 20, 12) (List.mem_of_getElem? (i := 74) rfl)).2
theorem sk_80 {μ : tm_M} (h : tS μ) : tm_k μ 80 = 24 := (h.2.1 (80, 24, 12) (List.mem_of_getElem? (i := 75) rfl)).1
theorem sn_80 {μ : tm_M} (h : tS μ) : tm_n μ 80 = 12 := (h.2.1 (80, 24, 12) (List.mem_of_getElem? (i := 75) rfl)).2
theorem sk_81 {μ : tm_M} (h : tS μ) : tm_k μ 81 = 21 := (h.2.1 (81, 21, 8) (List.mem_of_getElem? (i := 76) rfl)).1
theorem sn_81 {μ : tm_M} (h : tS μ) : tm_n μ 81 = 8 := (h.2.1 (81, 21, 8) (List.mem_of_getElem? (i := 76) rfl)).2
theorem sk_82 {μ : tm_M} (h : tS μ) : tm_k μ 82 = 20 := (h.2.1 (82, 20, 12) (List.mem_of_getElem? (i := 77) rfl)).1
theorem sn_82 {μ : tm_M} (h : tS μ) : tm_n μ 82 = 12 := (h.2.1 (82, 20, 12) (List.mem_of_getElem? (i := 77) rfl)).2
theorem sk_83 {μ : tm_M} (h : tS μ) : tm_k μ 83 = 20 := (h.2.1 (83, 20, 288) (List.mem_of_getElem? (i := 78) rfl)).1
theorem sn_83 {μ : tm_M} (h : tS μ) : tm_n μ 83 = 288 := (h.2.1 (83, 20, 288) (List.mem_of_getElem? (i := 78) rfl)).2
theorem sk_84 {μ : tm_M} (h : tS μ) : tm_k μ 84 = 24 := (h.2.1 (84, 24, 12) (List.mem_of_getElem? (i := 79) rfl)).1
theorem sn_84 {μ : tm_M} (h : tS μ) : tm_n μ 84 = 12 := (h.2.1 (84, 24, 12) (List.mem_of_getElem? (i := 79) rfl)).2
theorem sk_85 {μ : tm_M} (h : tS μ) : tm_k μ 85 = 20 := (h.2.1 (85, 20, 3) (List.mem_of_getElem? (i := 80) rfl)).1
theorem sn_85 {μ : tm_M} (h : tS μ) : tm_n μ 85 = 3 := (h.2.1 (85, 20, 3) (List.mem_of_getElem? (i := 80) rfl)).2
theorem sk_86 {μ : tm_M} (h : tS μ) : tm_k μ 86 = 20 := (h.2.1 (86, 20, 3) (List.mem_of_getElem? (i := 81) rfl)).1
theorem sn_86 {μ : tm_M} (h : tS μ) : tm_n μ 86 = 3 := (h.2.1 (86, 20, 3) (List.mem_of_getElem? (i := 81) rfl)).2
theorem sk_87 {μ : tm_M} (h : tS μ) : tm_k μ 87 = 20 := (h.2.1 (87, 20, 3) (List.mem_of_getElem? (i := 82) rfl)).1
theorem sn_87 {μ : tm_M} (h : tS μ) : tm_n μ 87 = 3 := (h.2.1 (87, 20, 3) (List.mem_of_getElem? (i := 82) rfl)).2
theorem sk_88 {μ : tm_M} (h : tS μ) : tm_k μ 88 = 20 := (h.2.1 (88, 20, 8) (List.mem_of_getElem? (i := 83) rfl)).1
theorem sn_88 {μ : tm_M} (h : tS μ) : tm_n μ 88 = 8 := (h.2.1 (88, 20, 8) (List.mem_of_getElem? (i := 83) rfl)).2
theorem sk_89 {μ : tm_M} (h : tS μ) : tm_k μ 89 = 20 := (h.2.1 (89, 20, 8) (List.mem_of_getElem? (i := 84) rfl)).1
theorem sn_89 {μ : tm_M} (h : tS μ) : tm_n μ 89 = 8 := (h.2.1 (89, 20, 8) (List.mem_of_getElem? (i := 84) rfl)).2
theorem sk_90 {μ : tm_M} (h : tS μ) : tm_k μ 90 = 20 := (h.2.1 (90, 20, 6) (List.mem_of_getElem? (i := 85) rfl)).1
theorem sn_90 {μ : tm_M} (h : tS μ) : tm_n μ 90 = 6 := (h.2.1 (90, 20, 6) (List.mem_of_getElem? (i := 85) rfl)).2
theorem sk_91 {μ : tm_M} (h : tS μ) : tm_k μ 91 = 20 := (h.2.1 (91, 20, 5) (List.mem_of_getElem? (i := 86) rfl)).1
theorem sn_91 {μ : tm_M} (h : tS μ) : tm_n μ 91 = 5 := (h.2.1 (91, 20, 5) (List.mem_of_getElem? (i := 86) rfl)).2
theorem sk_92 {μ : tm_M} (h : tS μ) : tm_k μ 92 = 20 := (h.2.1 (92, 20, 6) (List.mem_of_getElem? (i := 87) rfl)).1
theorem sn_92 {μ : tm_M} (h : tS μ) : tm_n μ 92 = 6 := (h.2.1 (92, 20, 6) (List.mem_of_getElem? (i := 87) rfl)).2
theorem sk_93 {μ : tm_M} (h : tS μ) : tm_k μ 93 = 21 := (h.2.1 (93, 21, 3) (List.mem_of_getElem? (i := 88) rfl)).1
theorem sn_93 {μ : tm_M} (h : tS μ) : tm_n μ 93 = 3 := (h.2.1 (93, 21, 3) (List.mem_of_getElem? (i := 88) rfl)).2
theorem sk_94 {μ : tm_M} (h : tS μ) : tm_k μ 94 = 24 := (h.2.1 (94, 24, 64) (List.mem_of_getElem? (i := 89) rfl)).1
theorem sn_94 {μ : tm_M} (h : tS μ) : tm_n μ 94 = 64 := (h.2.1 (94, 24, 64) (List.mem_of_getElem? (i := 89) rfl)).2
theorem sk_95 {μ : tm_M} (h : tS μ) : tm_k μ 95 = 24 := (h.2.1 (95, 24, 64) (List.mem_of_getElem? (i := 90) rfl)).1
theorem sn_95 {μ : tm_M} (h : tS μ) : tm_n μ 95 = 64 := (h.2.1 (95, 24, 64) (List.mem_of_getElem? (i := 90) rfl)).2
theorem sk_96 {μ : tm_M} (h : tS μ) : tm_k μ 96 = 20 := (h.2.1 (96, 20, 8) (List.mem_of_getElem? (i := 91) rfl)).1
theorem sn_96 {μ : tm_M} (h : tS μ) : tm_n μ 96 = 8 := (h.2.1 (96, 20, 8) (List.mem_of_getElem? (i := 91) rfl)).2
theorem sk_97 {μ : tm_M} (h : tS μ) : tm_k μ 97 = 21 := (h.2.1 (97, 21, 64) (List.mem_of_getElem? (i := 92) rfl)).1
theorem sn_97 {μ : tm_M} (h : tS μ) : tm_n μ 97 = 64 := (h.2.1 (97, 21, 64) (List.mem_of_getElem? (i := 92) rfl)).2
theorem sk_98 {μ : tm_M} (h : tS μ) : tm_k μ 98 = 21 := (h.2.1 (98, 21, 64) (List.mem_of_getElem? (i := 93) rfl)).1
theorem sn_98 {μ : tm_M} (h : tS μ) : tm_n μ 98 = 64 := (h.2.1 (98, 21, 64) (List.mem_of_getElem? (i := 93) rfl)).2
theorem sk_99 {μ : tm_M} (h : tS μ) : tm_k μ 99 = 20 := (h.2.1 (99, 20, 3) (List.mem_of_getElem? (i := 94) rfl)).1
theorem sn_99 {μ : tm_M} (h : tS μ) : tm_n μ 99 = 3 := (h.2.1 (99, 20, 3) (List.mem_of_getElem? (i := 94) rfl)).2
theorem sk_100 {μ : tm_M} (h : tS μ) : tm_k μ 100 = 20 := (h.2.1 (100, 20, 3) (List.mem_of_getElem? (i := 95) rfl)).1
theorem sn_100 {μ : tm_M} (h : tS μ) : tm_n μ 100 = 3 := (h.2.1 (100, 20, 3) (List.mem_of_getElem? (i := 95) rfl)).2
theorem sk_101 {μ : tm_M} (h : tS μ) : tm_k μ 101 = 20 := (h.2.1 (101, 20, 9) (List.mem_of_getElem? (i := 96) rfl)).1
theorem sn_101 {μ : tm_M} (h : tS μ) : tm_n μ 101 = 9 := (h.2.1 (101, 20, 9) (List.mem_of_getElem? (i := 96) rfl)).2
theorem sk_102 {μ : tm_M} (h : tS μ) : tm_k μ 102 = 21 := (h.2.1 (102, 21, 3) (List.mem_of_getElem? (i := 97) rfl)).1
theorem sn_102 {μ : tm_M} (h : tS μ) : tm_n μ 102 = 3 := (h.2.1 (102, 21, 3) (List.mem_of_getElem? (i := 97) rfl)).2
theorem sk_103 {μ : tm_M} (h : tS μ) : tm_k μ 103 = 21 := (h.2.1 (103, 21, 6) (List.mem_of_getElem? (i := 98) rfl)).1
theorem sn_103 {μ : tm_M} (h : tS μ) : tm_n μ 103 = 6 := (h.2.1 (103, 21, 6) (List.mem_of_getElem? (i := 98) rfl)).2
theorem sa_2 {μ : tm_M} (h : tS μ) {t : Int} (h0 : 0 ≤ t) (h1 : t < 4) : tm_v μ 2 t = 61 + t := by
  rcases (show t = 0 ∨ t = 1 ∨ t = 2 ∨ t = 3 by omega) with rfl | rfl | rfl | rfl
  · exact sv_2_0 h
  · exact sv_2_1 h
  · exact sv_2_2 h
  · exact sv_2_3 h
theorem sak_2 {μ : tm_M} (h : tS μ) {t : Int} (h0 : 0 ≤ t) (h1 : t < 4) : tm_k μ (61 + t) = 5 := by
  rcases (show t = 0 ∨ t = 1 ∨ t = 2 ∨ t = 3 by omega) with rfl | rfl | rfl | rfl
  · exact sk_61 h
  · exact sk_62 h
  · exact sk_63 h
  · exact sk_64 h
theorem san_2 {μ : tm_M} (h : tS μ) {t : Int} (h0 : 0 ≤ t) (h1 : t < 4) : tm_n μ (61 + t) = 2 := by
  rcases (show t = 0 ∨ t = 1 ∨ t = 2 ∨ t = 3 by omega) with rfl | rfl | rfl | rfl
  · exact sn_61 h
  · exact sn_62 h
  · exact sn_63 h
  · exact sn_64 h
theorem sa_17 {μ : tm_M} (h : tS μ) {t : Int} (h0 : 0 ≤ t) (h1 : t < 9) : tm_v μ 17 t = 18 + t := by
  rcases (show t = 0 ∨ t = 1 ∨ t = 2 ∨ t = 3 ∨ t = 4 ∨ t = 5 ∨ t = 6 ∨ t = 7 ∨ t = 8 by omega) with rfl | rfl | rfl | rfl | rfl | rfl | rfl | rfl | rfl
  · exact sv_17_0 h
  · exact sv_17_1 h
  · exact sv_17_2 h
  · exact sv_17_3 h
  · exact sv_17_4 h
  · exact sv_17_5 h
  · exact sv_17_6 h
  · exact sv_17_7 h
  · exact sv_17_8 h
theorem sak_17 {μ : tm_M} (h : tS μ) {t : Int} (h0 : 0 ≤ t) (h1 : t < 9) : tm_k μ (18 + t) = 20 := by
  rcases (show t = 0 ∨ t = 1 ∨ t = 2 ∨ t = 3 ∨ t = 4 ∨ t = 5 ∨ t = 6 ∨ t = 7 ∨ t = 8 by omega) with rfl | rfl | rfl | rfl | rfl | rfl | rfl | rfl | rfl
  · exact sk_18 h
  · exact sk_19 h
  · exact sk_20 h
  · exact sk_21 h
  · exact sk_22 h
  · exact sk_23 h
  · exact sk_24 h
  · exact sk_25 h
  · exact sk_26 h
theorem san_17 {μ : tm_M} (h : tS μ) {t : Int} (h0 : 0 ≤ t) (h1 : t < 9) : tm_n μ (18 + t) = 64 := by
  rcases (show t = 0 ∨ t = 1 ∨ t = 2 ∨ t = 3 ∨ t = 4 ∨ t = 5 ∨ t = 6 ∨ t = 7 ∨ t = 8 by omega) with rfl | rfl | rfl | rfl | rfl | rfl | rfl | rfl | rfl
  · exact sn_18 h
  · exact sn_19 h
  · exact sn_20 h
  · exact sn_21 h
  · exact sn_22 h
  · exact sn_23 h
  · exact sn_24 h
  · exact sn_25 h
  · exact sn_26 h
theorem sa_27 {μ : tm_M} (h : tS μ) {t : Int} (h0 : 0 ≤ t) (h1 : t < 9) : tm_v μ 27 t = 28 + t := by
  rcases (show t = 0 ∨ t = 1 ∨ t = 2 ∨ t = 3 ∨ t = 4 ∨ t = 5 ∨ t = 6 ∨ t = 7 ∨ t = 8 by omega) with rfl | rfl | rfl | rfl | rfl | rfl | rfl | rfl | rfl
  · exact sv_27_0 h
  · exact sv_27_1 h
  · exact sv_27_2 h
  · exact sv_27_3 h
  · exact sv_27_4 h
  · exact sv_27_5 h
  · exact sv_27_6 h
  · exact sv_27_7 h
  · exact sv_27_8 h
theorem sak_27 {μ : tm_M} (h : tS μ) {t : Int} (h0 : 0 ≤ t) (h1 : t < 9) : tm_k μ (28 + t) = 20 := by
  rcases (show t = 0 ∨ t = 1 ∨ t = 2 ∨ t = 3 ∨ t = 4 ∨ t = 5 ∨ t = 6 ∨ t = 7 ∨ t = 8 by omega) with rfl | rfl | rfl | rfl | rfl | rfl | rfl | rfl | rfl
  · exact sk_28 h
  · exact sk_29 h
  · exact sk_30 h
  · exact sk_31 h
  · exact sk_32 h
  · exact sk_33 h
  · exact sk_34 h
  · exact sk_35 h
  · exact sk_36 h
theorem san_27 {μ : tm_M} (h : tS μ) {t : Int} (h0 : 0 ≤ t) (h1 : t < 9) : tm_n μ (28 + t) = 64 := by
  rcases (show t = 0 ∨ t = 1 ∨ t = 2 ∨ t = 3 ∨ t = 4 ∨ t = 5 ∨ t = 6 ∨ t = 7 ∨ t = 8 by omega) with rfl | rfl | rfl | rfl | rfl | rfl | rfl | rfl | rfl
  · exact sn_28 h
  · exact sn_29 h
  · exact sn_30 h
  · exact sn_31 h
  · exact sn_32 h
  · exact sn_33 h
  · exact sn_34 h
  · exact sn_35 h
  · exact sn_36 h
theorem sa_41 {μ : tm_M} (h : tS μ) {t : Int} (h0 : 0 ≤ t) (h1 : t < 2) : tm_v μ 41 t = 42 + t := by
  rcases (show t = 0 ∨ t = 1 by omega) with rfl | rfl
  · exact sv_41_0 h
  · exact sv_41_1 h
theorem sak_41 {μ : tm_M} (h : tS μ) {t : Int} (h0 : 0 ≤ t) (h1 : t < 2) : tm_k μ (42 + t) = 20 := by
  rcases (show t = 0 ∨ t = 1 by omega) with rfl | rfl
  · exact sk_42 h
  · exact sk_43 h
theorem san_41 {μ : tm_M} (h : tS μ) {t : Int} (h0 : 0 ≤ t) (h1 : t < 2) : tm_n μ (42 + t) = 3 := by
  rcases (show t = 0 ∨ t = 1 by omega) with rfl | rfl
  · exact sn_42 h
  · exact sn_43 h
theorem sa_50 {μ : tm_M} (h : tS μ) {t : Int} (h0 : 0 ≤ t) (h1 : t < 3) : tm_v μ 50 t = 7 + t := by
  rcases (show t = 0 ∨ t = 1 ∨ t = 2 by omega) with rfl | rfl | rfl
  · exact sv_50_0 h
  · exact sv_50_1 h
  · exact sv_50_2 h
theorem sak_50 {μ : tm_M} (h : tS μ) {t : Int} (h0 : 0 ≤ t) (h1 : t < 3) : tm_k μ (7 + t) = 3 := by
  rcases (show t = 0 ∨ t = 1 ∨ t = 2 by omega) with rfl | rfl | rfl
  · exact sk_7 h
  · exact sk_8 h
  · exact sk_9 h
theorem san_50 {μ : tm_M} (h : tS μ) {t : Int} (h0 : 0 ≤ t) (h1 : t < 3) : tm_n μ (7 + t) = 4 := by
  rcases (show t = 0 ∨ t = 1 ∨ t = 2 by omega) with rfl | rfl | rfl
  · exact sn_7 h
  · exact sn_8 h
  · exact sn_9 h
theorem sa_52 {μ : tm_M} (h : tS μ) {t : Int} (h0 : 0 ≤ t) (h1 : t < 3) : tm_v μ 52 t = 53 + t := by
  rcases (show t = 0 ∨ t = 1 ∨ t = 2 by omega) with rfl | rfl | rfl
  · exact sv_52_0 h
  · exact sv_52_1 h
  · exact sv_52_2 h
theorem sak_52 {μ : tm_M} (h : tS μ) {t : Int} (h0 : 0 ≤ t) (h1 : t < 3) : tm_k μ (53 + t) = 21 := by
  rcases (show t = 0 ∨ t = 1 ∨ t = 2 by omega) with rfl | rfl | rfl
  · exact sk_53 h
  · exact sk_54 h
  · exact sk_55 h
theorem san_52 {μ : tm_M} (h : tS μ) {t : Int} (h0 : 0 ≤ t) (h1 : t < 3) : tm_n μ (53 + t) = 3 := by
  rcases (show t = 0 ∨ t = 1 ∨ t = 2 by omega) with rfl | rfl | rfl
  · exact sn_53 h
  · exact sn_54 h
  · exact sn_55 h
/-- a cell of which nothing is fixed -/
def tfr (a : Int) : Prop := a ≠ 1 ∧ a ≠ 2 ∧ a ≠ 4 ∧ a ≠ 17 ∧ a ≠ 27 ∧ a ≠ 41 ∧ a ≠ 50 ∧ a ≠ 52 ∧ a ≠ 65
theorem ts_va : ∀ q ∈ ts_v, q.1 = 1 ∨ q.1 = 2 ∨ q.1 = 4 ∨ q.1 = 17 ∨ q.1 = 27 ∨ q.1 = 41 ∨ q.1 = 50 ∨ q.1 = 52 ∨ q.1 = 65 := by decide +kernel
theorem tS_w {μ : tm_M} (h : tS μ) {a : Int} (ha : tfr a) (j x : Int) : tS (tm_w μ a j x) := by
  refine ⟨fun q hq => ?_, h.2.1, h.2.2⟩
  rw [tm_vw, if_neg (fun e => ?_)]
  · exact h.1 q hq
  · have := ts_va q hq
    have e1 := e.1
    unfold tfr at ha
    omega
theorem tS_wj {μ : tm_M} (h : tS μ) {a j : Int} (x : Int) (hj : ts_v.all (fun q => !(decide (q.1 = a) && decide (q.2.1 = j))) = true) : tS (tm_w μ a j x) := by
  refine ⟨fun q hq => ?_, h.2.1, h.2.2⟩
  rw [tm_vw, if_neg (fun e => ?_)]
  · exact h.1 q hq
  · have := List.all_eq_true.mp hj q hq
    simp [e.1, e.2] at this
theorem tS_c {μ : tm_M} (h : tS μ) {b : Int} (hb : tfr b) (a i j n : Int) : tS (tm_c μ a i b j n) := by
  refine ⟨fun q hq => ?_, h.2.1, h.2.2⟩
  rw [tm_vc, if_neg (fun e => ?_)]
  · exact h.1 q hq
  · have := ts_va q hq
    have e1 := e.1
    unfold tfr at hb
    omega
theorem ts_vl : ∀ q ∈ ts_v, q.1 ≤ 103 := by decide +kernel
theorem ts_kl : ∀ q ∈ ts_k, q.1 ≤ 103 := by decide +kernel
theorem tS_a {μ : tm_M} (h : tS μ) (k : Nat) (n : Int) : tS (tm_a μ k n) := by
  refine ⟨fun q hq => ?_, fun q hq => ?_, by rw [tm_za]; have := h.2.2; omega⟩
  · have := ts_vl q hq
    have := h.2.2
    rw [tm_va, if_neg (by omega)]
    exact h.1 q hq
  · have := ts_kl q hq
    have := h.2.2
    rw [tm_ka, tm_na, if_neg (by omega), if_neg (by omega)]
    exact h.2.1 q hq
theorem sf_3 : tfr 3 := by unfold tfr; omega
theorem sf_5 : tfr 5 := by unfold tfr; omega
theorem sf_6 : tfr 6 := by unfold tfr; omega
theorem sf_7 : tfr 7 := by unfold tfr; omega
theorem sf_8 : tfr 8 := by unfold tfr; omega
theorem sf_9 : tfr 9 := by unfold tfr; omega
theorem sf_10 : tfr 10 := by unfold tfr; omega
theorem sf_15 : tfr 15 := by unfold tfr; omega
theorem sf_16 : tfr 16 := by unfold tfr; omega
theorem sf_18 : tfr 18 := by unfold tfr; omega
theorem sf_19 : tfr 19 := by unfold tfr; omega
theorem sf_20 : tfr 20 := by unfold tfr; omega
theorem sf_21 : tfr 21 := by unfold tfr; omega
theorem sf_22 : tfr 22 := by unfold tfr; omega
theorem sf_23 : tfr 23 := by unfold tfr; omega
theorem sf_24 : tfr 24 := by unfold tfr; omega
theorem sf_25 : tfr 25 := by unfold tfr; omega
theorem sf_26 : tfr 26 := by unfold tfr; omega
theorem sf_28 : tfr 28 := by unfold tfr; omega
theorem sf_29 : tfr 29 := by unfold tfr; omega
theorem sf_30 : tfr 30 := by unfold tfr; omega
theorem sf_31 : tfr 31 := by unfold tfr; omega
theorem sf_32 : tfr 32 := by unfold tfr; omega
theorem sf_33 : tfr 33 := by unfold tfr; omega
theorem sf_34 : tfr 34 := by unfold tfr; omega
theorem sf_35 : tfr 35 := by unfold tfr; omega
theorem sf_36 : tfr 36 := by unfold tfr; omega
theorem sf_37 : tfr 37 := by unfold tfr; omega
theorem sf_38 : tfr 38 := by unfold tfr; omega
theorem sf_39 : tfr 39 := by unfold tfr; omega
theorem sf_40 : tfr 40 := by unfold tfr; omega
theorem sf_42 : tfr 42 := by unfold tfr; omega
theorem sf_43 : tfr 43 := by unfold tfr; omega
theorem sf_44 : tfr 44 := by unfold tfr; omega
theorem sf_45 : tfr 45 := by unfold tfr; omega
theorem sf_46 : tfr 46 := by unfold tfr; omega
theorem sf_47 : tfr 47 := by unfold tfr; omega
theorem sf_48 : tfr 48 := by unfold tfr; omega
theorem sf_49 : tfr 49 := by unfold tfr; omega
theorem sf_51 : tfr 51 := by unfold tfr; omega
theorem sf_53 : tfr 53 := by unfold tfr; omega
theorem sf_54 : tfr 54 := by unfold tfr; omega
theorem sf_55 : tfr 55 := by unfold tfr; omega
theorem sf_56 : tfr 56 := by unfold tfr; omega
theorem sf_57 : tfr 57 := by unfold tfr; omega
theorem sf_58 : tfr 58 := by unfold tfr; omega
theorem sf_59 : tfr 59 := by unfold tfr; omega
theorem sf_60 : tfr 60 := by unfold tfr; omega
theorem sf_61 : tfr 61 := by unfold tfr; omega
theorem sf_62 : tfr 62 := by unfold tfr; omega
theorem sf_63 : tfr 63 := by unfold tfr; omega
theorem sf_64 : tfr 64 := by unfold tfr; omega
theorem sf_66 : tfr 66 := by unfold tfr; omega
theorem sf_67 : tfr 67 := by unfold tfr; omega
theorem sf_68 : tfr 68 := by unfold tfr; omega
theorem sf_69 : tfr 69 := by unfold tfr; omega
theorem sf_70 : tfr 70 := by unfold tfr; omega
theorem sf_71 : tfr 71 := by unfold tfr; omega
theorem sf_72 : tfr 72 := by unfold tfr; omega
theorem sf_73 : tfr 73 := by unfold tfr; omega
theorem sf_74 : tfr 74 := by unfold tfr; omega
theorem sf_75 : tfr 75 := by unfold tfr; omega
theorem sf_76 : tfr 76 := by unfold tfr; omega
theorem sf_77 : tfr 77 := by unfold tfr; omega
theorem sf_78 : tfr 78 := by unfold tfr; omega
theorem sf_79 : tfr 79 := by unfold tfr; omega
theorem sf_80 : tfr 80 := by unfold tfr; omega
theorem sf_81 : tfr 81 := by unfold tfr; omega
theorem sf_82 : tfr 82 := by unfold tfr; omega
theorem sf_83 : tfr 83 := by unfold tfr; omega
theorem sf_84 : tfr 84 := by unfold tfr; omega
theorem sf_85 : tfr 85 := by unfold tfr; omega
theorem sf_86 : tfr 86 := by unfold tfr; omega
theorem sf_87 : tfr 87 := by unfold tfr; omega
theorem sf_88 : tfr 88 := by unfold tfr; omega
theorem sf_89 : tfr 89 := by unfold tfr; omega
theorem sf_90 : tfr 90 := by unfold tfr; omega
theorem sf_91 : tfr 91 := by unfold tfr; omega
theorem sf_92 : tfr 92 := by unfold tfr; omega
theorem sf_93 : tfr 93 := by unfold tfr; omega
theorem sf_94 : tfr 94 := by unfold tfr; omega
theorem sf_95 : tfr 95 := by unfold tfr; omega
theorem sf_96 : tfr 96 := by unfold tfr; omega
theorem sf_97 : tfr 97 := by unfold tfr; omega
theorem sf_98 : tfr 98 := by unfold tfr; omega
theorem sf_99 : tfr 99 := by unfold tfr; omega
theorem sf_100 : tfr 100 := by unfold tfr; omega
theorem sf_101 : tfr 101 := by unfold tfr; omega
theorem sf_102 : tfr 102 := by unfold tfr; omega
theorem sf_103 : tfr 103 := by unfold tfr; omega
/-- since μ0 nothing has changed but what W names -/
def tFr (W : Int → Int → Prop) (μ0 μ : tm_M) : Prop := tS μ ∧ tm_z μ = tm_z μ0 ∧ tm_k μ = tm_k μ0 ∧ tm_n μ = tm_n μ0 ∧ ∀ a j, ¬ W a j → tm_v μ a j = tm_v μ0 a j
def tWs (A : List Int) (B : List (Int × Int)) (a j : Int) : Prop := a ∈ A ∨ (a, j) ∈ B
theorem tWs_sub {A A' : List Int} {B B' : List (Int × Int)} (h : (A'.all (fun a => decide (a ∈ A)) && B'.all (fun q => decide (q.1 ∈ A) || decide (q ∈ B))) = true) : ∀ a j, tWs A' B' a j → tWs A B a j := by
  intro a j hw
  rw [Bool.and_eq_true] at h
  rcases hw with q | q
  · exact Or.inl (of_decide_eq_true (List.all_eq_true.mp h.1 a q))
  · have := List.all_eq_true.mp h.2 _ q
    rw [Bool.or_eq_true] at this
    rcases this with w | w
    · exact Or.inl (of_decide_eq_true w)
    · exact Or.inr (of_decide_eq_true w)
theorem tWs_no {A : List Int} {B : List (Int × Int)} {a : Int} (j : Int) (h : (A.all (fun q => !decide (q = a)) && B.all (fun q => !decide (q.1 = a))) = true) : ¬ tWs A B a j := by
  intro hw
  rw [Bool.and_eq_true] at h
  rcases hw with q | q
  · have := List.all_eq_true.mp h.1 a q
    simp at this
  · have := List.all_eq_true.mp h.2 _ q
    simp at this
theorem tWs_noF {A : List Int} {B : List (Int × Int)} {a j : Int} (h : (A.all (fun q => !decide (q = a)) && B.all (fun q => !decide (q = (a, j)))) = true) : ¬ tWs A B a j := by
  intro hw
  rw [Bool.and_eq_true] at h
  rcases hw with q | q
  · have := List.all_eq_true.mp h.1 a q
    simp at this
  · have := List.all_eq_true.mp h.2 _ q
    simp at this
section FR
variable {W W' : Int → Int → Prop} {μ0 μ μ' : tm_M}
theorem tFr.rf (h : tS μ) : tFr W μ μ := ⟨h, rfl, rfl, rfl, fun _ _ _ => rfl⟩
theorem tFr.S (h : tFr W μ0 μ) : tS μ := h.1
theorem tFr.z (h : tFr W μ0 μ) : tm_z μ = tm_z μ0 := h.2.1
theorem tFr.k (h : tFr W μ0 μ) : tm_k μ = tm_k μ0 := h.2.2.1
theorem tFr.n (h : tFr W μ0 μ) : tm_n μ = tm_n μ0 := h.2.2.2.1
theorem tFr.v (h : tFr W μ0 μ) {a j : Int} (hw : ¬ W a j) : tm_v μ a j = tm_v μ0 a j := h.2.2.2.2 a j hw
theorem tFr.w (h : tFr W μ0 μ) {a j x : Int} (hw : W a j) (hs : tS (tm_w μ a j x)) : tFr W μ0 (tm_w μ a j x) := by
  refine ⟨hs, h.z, h.k, h.n, fun b i hb => ?_⟩
  rw [tm_vw, if_neg (fun e => hb (by rw [e.1, e.2]; exact hw))]
  exact h.v hb
theorem tFr.c (h : tFr W μ0 μ) {a i b j n : Int} (hw : ∀ q, W b q) (hs : tS (tm_c μ a i b j n)) : tFr W μ0 (tm_c μ a i b j n) := by
  refine ⟨hs, h.z, h.k, h.n, fun q x hq => ?_⟩
  rw [tm_vc, if_neg (fun e => hq (by rw [e.1]; exact hw x))]
  exact h.v hq
theorem tFr.tr (h : tFr W μ0 μ) (h' : tFr W' μ μ') (hw : ∀ a j, W' a j → W a j) : tFr W μ0 μ' :=
  ⟨h'.S, h'.z.trans h.z, h'.k.trans h.k, h'.n.trans h.n, fun a j q => (h'.v (fun r => q (hw a j r))).trans (h.v q)⟩
theorem tFr.to (h : tFr W μ0 μ) (hw : ∀ a j, W a j → W' a j) : tFr W' μ0 μ := ⟨h.S, h.z, h.k, h.n, fun _ _ q => h.v (fun r => q (hw _ _ r))⟩
theorem tFr.same (h : tFr (tWs [] []) μ0 μ) : μ = μ0 := by
  obtain ⟨z, k, n, v⟩ := μ
  obtain ⟨z0, k0, n0, v0⟩ := μ0
  have h1 : z = z0 := h.z
  have h2 : k = k0 := h.k
  have h3 : n = n0 := h.n
  have h4 : v = v0 := by
    funext a j
    exact h.v (fun q => by rcases q with q | q <;> cases q)
  rw [h1, h2, h3, h4]
end FR
/-- answers, with an invariant of the memory -/
def oV (Iv : tm_M → Prop) (K : tm_M → Prop) : tQ := fun o μ => o = .inl none ∧ Iv μ ∧ K μ
def oI (Iv : tm_M → Prop) (K : Int → tm_M → Prop) : tQ := fun o μ => ∃ r, o = .inl (some (0, r)) ∧ Iv μ ∧ K r μ
def oL (Iv : tm_M → Prop) (K : Int → tm_M → Prop) : tQ := fun o μ => ∃ r, o = .inl (some (1, r)) ∧ Iv μ ∧ K r μ
def oR (Iv : tm_M → Prop) (K : Int → tm_M → Prop) : tQ := fun o μ => ∃ r, o = .inl (some (2, r)) ∧ Iv μ ∧ K r μ
/-- contracts without new cells: the method changes what W names -/
abbrev cV (W : Int → Int → Prop) (M : tM) (d : Nat) (as : tSt) (μ : tm_M) (K : tm_M → Prop) : Prop := tC M d 0 0 as μ (oV (tFr W μ) K)
abbrev cI (W : Int → Int → Prop) (M : tM) (d : Nat) (as : tSt) (μ : tm_M) (K : Int → tm_M → Prop) : Prop := tC M d 0 0 as μ (oI (tFr W μ) K)
abbrev cL (W : Int → Int → Prop) (M : tM) (d : Nat) (as : tSt) (μ : tm_M) (K : Int → tm_M → Prop) : Prop := tC M d 0 0 as μ (oL (tFr W μ) K)
abbrev cR (W : Int → Int → Prop) (M : tM) (d : Nat) (as : tSt) (μ : tm_M) (K : Int → tm_M → Prop) : Prop := tC M d 0 0 as μ (oR (tFr W μ) K)
abbrev hV (W : Int → Int → Prop) (μ0 : tm_M) (M : tM) (d : Nat) (K : tm_M → Prop) (pc : Nat) (L : tLs) (S : tSt) (μ : tm_M) : Prop := tH M d 0 0 (tq (oV (tFr W μ0) K) 0 0) pc L S μ 0 0
abbrev hI (W : Int → Int → Prop) (μ0 : tm_M) (M : tM) (d : Nat) (K : Int → tm_M → Prop) (pc : Nat) (L : tLs) (S : tSt) (μ : tm_M) : Prop := tH M d 0 0 (tq (oI (tFr W μ0) K) 0 0) pc L S μ 0 0
abbrev hLo (W : Int → Int → Prop) (μ0 : tm_M) (M : tM) (d : Nat) (K : Int → tm_M → Prop) (pc : Nat) (L : tLs) (S : tSt) (μ : tm_M) : Prop := tH M d 0 0 (tq (oL (tFr W μ0) K) 0 0) pc L S μ 0 0
abbrev hRe (W : Int → Int → Prop) (μ0 : tm_M) (M : tM) (d : Nat) (K : Int → tm_M → Prop) (pc : Nat) (L : tLs) (S : tSt) (μ : tm_M) : Prop := tH M d 0 0 (tq (oR (tFr W μ0) K) 0 0) pc L S μ 0 0
theorem tC.I {Iv : tm_M → Prop} {M : tM} {d mc ms : Nat} {as : tSt} {μ : tm_M} {K K' : Int → tm_M → Prop} (h : tC M d mc ms as μ (oI Iv K)) (hk : ∀ r μ', Iv μ' → K r μ' → K' r μ') : tC M d mc ms as μ (oI Iv K') := tC.mono h (by rintro o μ' ⟨r, e, s, k⟩; exact ⟨r, e, s, hk r μ' s k⟩)
theorem tC.L {Iv : tm_M → Prop} {M : tM} {d mc ms : Nat} {as : tSt} {μ : tm_M} {K K' : Int → tm_M → Prop} (h : tC M d mc ms as μ (oL Iv K)) (hk : ∀ r μ', Iv μ' → K r μ' → K' r μ') : tC M d mc ms as μ (oL Iv K') := tC.mono h (by rintro o μ' ⟨r, e, s, k⟩; exact ⟨r, e, s, hk r μ' s k⟩)
theorem tC.R {Iv : tm_M → Prop} {M : tM} {d mc ms : Nat} {as : tSt} {μ : tm_M} {K K' : Int → tm_M → Prop} (h : tC M d mc ms as μ (oR Iv K)) (hk : ∀ r μ', Iv μ' → K r μ' → K' r μ') : tC M d mc ms as μ (oR Iv K') := tC.mono h (by rintro o μ' ⟨r, e, s, k⟩; exact ⟨r, e, s, hk r μ' s k⟩)
theorem tC.V {Iv : tm_M → Prop} {M : tM} {d mc ms : Nat} {as : tSt} {μ : tm_M} {K K' : tm_M → Prop} (h : tC M d mc ms as μ (oV Iv K)) (hk : ∀ μ', Iv μ' → K μ' → K' μ') : tC M d mc ms as μ (oV Iv K') := tC.mono h (by rintro o μ' ⟨e, s, k⟩; exact ⟨e, s, hk μ' s k⟩)
section GC
variable {M : tM} {d mc ms : Nat} {F : tF} {pc : Nat} {L : tLs} {S : tSt} {μ : tm_M} {nc ns : Nat}
theorem g_getC {idx ci τ : Nat} {fin : Bool} {a x kI : Int} (σ : Nat) (hd : decode M.2.1 pc = .ok (.getfield idx, 3)) (f : tfl M.1.cls idx ci kI τ fin) (hσ : tt_s τ = σ) (h1 : 1 ≤ a) (hk : tm_k μ a = ci) (hv : tm_v μ a kI = x) (h : tH M d mc ms F (pc + 3) L ((σ, x) :: S) μ nc ns) : tH M d mc ms F pc L ((2, a) :: S) μ nc ns :=
  g_get σ hd f hσ h1 hk (hv ▸ h)
theorem g_aaloadC {a j x : Int} {k : Nat} (hd : decode M.2.1 pc = .ok (.aaload, 1)) (h1 : 1 ≤ a) (hk : tm_k μ a = k) (hk2 : 25 ≤ k ∧ k < 32) (h0 : 0 ≤ j) (hn : j < tm_n μ a) (hv : tm_v μ a j = x) (h : tH M d mc ms F (pc + 1) L ((2, x) :: S) μ nc ns) : tH M d mc ms F pc L ((0, j) :: (2, a) :: S) μ nc ns :=
  g_aaload hd h1 hk hk2 h0 hn (hv ▸ h)
theorem g_ialoadC {a j x : Int} (hd : decode M.2.1 pc = .ok (.iaload, 1)) (h1 : 1 ≤ a) (hk : tm_k μ a = 20) (h0 : 0 ≤ j) (hn : j < tm_n μ a) (hv : tm_v μ a j = x) (h : tH M d mc ms F (pc + 1) L ((0, x) :: S) μ nc ns) : tH M d mc ms F pc L ((0, j) :: (2, a) :: S) μ nc ns := g_iaload hd h1 hk h0 hn (hv ▸ h)
theorem g_laloadC {a j x : Int} (hd : decode M.2.1 pc = .ok (.laload, 1)) (h1 : 1 ≤ a) (hk : tm_k μ a = 21) (h0 : 0 ≤ j) (hn : j < tm_n μ a) (hv : tm_v μ a j = x) (h : tH M d mc ms F (pc + 1) L ((1, x) :: S) μ nc ns) : tH M d mc ms F pc L ((0, j) :: (2, a) :: S) μ nc ns := g_laload hd h1 hk h0 hn (hv ▸ h)
theorem g_baloadC {a j x : Int} (hd : decode M.2.1 pc = .ok (.baload, 1)) (h1 : 1 ≤ a) (hk : tm_k μ a = 22) (h0 : 0 ≤ j) (hn : j < tm_n μ a) (hv : tm_v μ a j = x) (h : tH M d mc ms F (pc + 1) L ((0, x) :: S) μ nc ns) : tH M d mc ms F pc L ((0, j) :: (2, a) :: S) μ nc ns := g_baload hd h1 hk h0 hn (hv ▸ h)
theorem g_saloadC {a j x : Int} (hd : decode M.2.1 pc = .ok (.saload, 1)) (h1 : 1 ≤ a) (hk : tm_k μ a = 23) (h0 : 0 ≤ j) (hn : j < tm_n μ a) (hv : tm_v μ a j = x) (h : tH M d mc ms F (pc + 1) L ((0, x) :: S) μ nc ns) : tH M d mc ms F pc L ((0, j) :: (2, a) :: S) μ nc ns := g_saload hd h1 hk h0 hn (hv ▸ h)
theorem g_zaloadC {a j x : Int} (hd : decode M.2.1 pc = .ok (.baload, 1)) (h1 : 1 ≤ a) (hk : tm_k μ a = 24) (h0 : 0 ≤ j) (hn : j < tm_n μ a) (hv : tm_v μ a j = x) (h : tH M d mc ms F (pc + 1) L ((0, x) :: S) μ nc ns) : tH M d mc ms F pc L ((0, j) :: (2, a) :: S) μ nc ns := g_zaload hd h1 hk h0 hn (hv ▸ h)
theorem g_alenC {a x : Int} {k : Nat} (hd : decode M.2.1 pc = .ok (.arraylength, 1)) (h1 : 1 ≤ a) (hk : tm_k μ a = k) (hk2 : 20 ≤ k) (hv : tm_n μ a = x) (h : tH M d mc ms F (pc + 1) L ((0, x) :: S) μ nc ns) : tH M d mc ms F pc L ((2, a) :: S) μ nc ns :=
  g_alen hd h1 hk hk2 (hv ▸ h)
/-- fewer (or none) of the locals, the stack the same: the walk goes on from a list by its places -/
theorem t_lt {μ : tm_M} {a : Int} {n j : Int} (hn : tm_n μ a = n) (h : j < n) : j < tm_n μ a := by rw [hn]; exact h
end GC
