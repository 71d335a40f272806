set_option maxRecDepth 100000
/-- the owners of code by number: 0 .. 15 the classes of objects, then Act, Truth, Sum, the law, Integer, Math, String -/
def ab_nmT : List String := ["MovedSpan", "MovedSpan$River", "MovedSpan$Walk", "MovedSpan$Cross", "MovedSpan$GetOn", "MovedSpan$GetOff", "MovedSpan$State", "MovedSpan$Numbers", "MovedSpanModel", "MovedSpan$Reader", "MovedSpan$Not", "MovedSpan$Known", "MovedSpan$Plain", "MovedSpan$Pair", "MovedSpan$Compare", "MovedSpan$Both", "MovedSpan$Act", "MovedSpan$Truth", "MovedSpan$Sum", "MovedSpanLaw", "java/lang/Integer", "java/lang/Math", "java/lang/String"]
def ab_nm (i : Nat) : String := ab_nmT.getD i ""
/-- a method: owner, name, code, locals, answer, is it a constructor -/
abbrev ab_Me : Type := Nat × MethodName × ByteArray × Nat × Option FieldType × Bool
def ab_meT : List ab_Me := [
  (0, yX0_init, cX0_init, 1, none, true),
  (0, yX0_feed, cX0_feed, 6, (some .int), false),
  (0, yX0_bytes, cX0_bytes, 3, none, false),
  (0, yX0_river, cX0_river, 3, (some .int), false),
  (0, yX0_in, cX0_in, 6, (some .boolean), false),
  (0, yX0_fault, cX0_fault, 2, (some .int), false),
  (0, yX0_span, cX0_span, 2, (some .int), false),
  (0, yX0_person, cX0_person, 3, (some .int), false),
  (0, yX0_isBody, cX0_isBody, 2, (some .boolean), false),
  (0, yX0_has, cX0_has, 2, (some .boolean), false),
  (0, yX0_why, cX0_why, 3, (some .int), false),
  (0, yX0_leads, cX0_leads, 4, (some .int), false),
  (0, yX0_isAllowed, cX0_isAllowed, 8, (some .boolean), false),
  (0, yX0_act, cX0_act, 4, (some .int), false),
  (0, yX0_keeps, cX0_keeps, 1, none, false),
  (0, yX0_tell, cX0_tell, 4, (some .int), false),
  (0, yX0_fog, cX0_fog, 3, (some .int), false),
  (0, yX0_hours, cX0_hours, 4, (some .int), false),
  (0, yX0_undo, cX0_undo, 2, (some .int), false),
  (0, yX0_judge, cX0_judge, 6, (some .int), false),
  (0, yX0_trayFault, cX0_trayFault, 2, (some .int), false),
  (0, yX0_isTray, cX0_isTray, 1, (some .boolean), false),
  (0, yX0_goes, cX0_goes, 3, (some .int), false),
  (0, yX0_perform, cX0_perform, 4, (some .int), false),
  (0, yX0_year, cX0_year, 6, (some .int), false),
  (0, yX0_told, cX0_told, 3, (some .int), false),
  (0, yX0_draw, cX0_draw, 2, (some .int), false),
  (0, yX0_soonest, cX0_soonest, 3, (some .int), false),
  (0, yX0_isAsked, cX0_isAsked, 3, (some .boolean), false),
  (0, yX0_laysOwn, cX0_laysOwn, 1, none, false),
  (0, yX0_laysTables, cX0_laysTables, 6, none, false),
  (0, yX0_asksOwn, cX0_asksOwn, 1, none, false),
  (0, yX0_hoursFrom, cX0_hoursFrom, 7, (some .int), false),
  (0, yX0_onward, cX0_onward, 8, (some .int), false),
  (0, yX0_hourIn, cX0_hourIn, 2, (some .int), false),
  (0, yX0_fogIn, cX0_fogIn, 2, (some .int), false),
  (0, yX0_leadsIn, cX0_leadsIn, 9, (some .int), false),
  (0, yX0_way, cX0_way, 4, (some .int), false),
  (0, yX0_laysWay, cX0_laysWay, 7, (some .int), false),
  (0, yX0_isGood, cX0_isGood, 3, (some .boolean), false),
  (0, yX0_ways, cX0_ways, 7, (some .long), false),
  (0, yX0_counts, cX0_counts, 4, none, false),
  (0, yX0_reach, cX0_reach, 3, (some .int), false),
  (0, yX0_reachOf, cX0_reachOf, 5, (some .int), false),
  (0, yX0_meet, cX0_meet, 3, (some .int), false),
  (0, yX0_areTwo, cX0_areTwo, 3, (some .boolean), false),
  (0, yX0_meets, cX0_meets, 6, (some .int), false),
  (0, yX0_meetAt, cX0_meetAt, 3, (some .int), false),
  (0, yX0_inTime, cX0_inTime, 1, (some .int), false),
  (0, yX0_inTimeSet, cX0_inTimeSet, 3, (some .int), false),
  (0, yX0_isInTime, cX0_isInTime, 3, (some .boolean), false),
  (0, yX0_spare, cX0_spare, 3, (some .int), false),
  (0, yX0_needs, cX0_needs, 5, (some .int), false),
  (0, yX0_moves, cX0_moves, 1, (some .int), false),
  (0, yX0_movesOf, cX0_movesOf, 3, (some .int), false),
  (0, yX0_best, cX0_best, 2, (some .int), false),
  (0, yX0_laysWeeks, cX0_laysWeeks, 1, none, false),
  (0, yX0_goesWeeks, cX0_goesWeeks, 3, none, false),
  (0, yX0_sees, cX0_sees, 3, none, false),
  (0, yX0_weeks, cX0_weeks, 1, (some .int), false),
  (0, yX0_change, cX0_change, 7, (some .int), false),
  (0, yX0_shift, cX0_shift, 5, (some .int), false),
  (0, yX0_fits, cX0_fits, 5, (some .int), false),
  (0, yX0_seenFault, cX0_seenFault, 6, (some .int), false),
  (0, yX0_fitting, cX0_fitting, 7, (some .int), false),
  (0, yX0_firstOdd, cX0_firstOdd, 5, (some .int), false),
  (0, yX0_spots, cX0_spots, 1, (some .int), false),
  (0, yX0_surest, cX0_surest, 8, (some .int), false),
  (0, yX0_odd, cX0_odd, 4, (some .int), false),
  (0, yX0_chance, cX0_chance, 9, (some .long), false),
  (0, yX0_chanceOf, cX0_chanceOf, 6, (some .long), false),
  (0, yX0_tens, cX0_tens, 4, (some .long), false),
  (0, yX0_likeliest, cX0_likeliest, 10, (some .long), false),
  (0, yX0_common, cX0_common, 4, (some .long), false),
  (0, yX0_likely, cX0_likely, 5, (some .int), false),
  (0, yX0_numbers, cX0_numbers, 4, (some .int), false),
  (0, yX0_lists, cX0_lists, 8, (some .int), false),
  (0, yX0_image, cX0_image, 2, (some .int), false),
  (0, yX0_restore, cX0_restore, 2, (some .int), false),
  (0, yX0_count, cX0_count, 2, (some .int), false),
  (0, yX0_riders, cX0_riders, 3, (some .int), false),
  (1, yX1_init, cX1_init, 1, none, true),
  (1, yX1_serves, cX1_serves, 5, (some .boolean), false),
  (1, yX1_lays, cX1_lays, 5, none, false),
  (1, yX1_walks, cX1_walks, 6, (some .boolean), false),
  (1, yX1_isSpot, cX1_isSpot, 3, (some .boolean), false),
  (1, yX1_errands, cX1_errands, 3, (some .int), false),
  (16, yX2_init, cX2_init, 2, none, true),
  (16, yX2_gap, cX2_gap, 3, (some .int), false),
  (2, yX3_init, cX3_init, 3, none, true),
  (2, yX3_leads, cX3_leads, 3, (some .int), false),
  (2, yX3_isServed, cX3_isServed, 1, (some .boolean), false),
  (3, yX4_init, cX4_init, 2, none, true),
  (3, yX4_leads, cX4_leads, 3, (some .int), false),
  (3, yX4_isServed, cX4_isServed, 1, (some .boolean), false),
  (4, yX5_init, cX5_init, 2, none, true),
  (4, yX5_leads, cX5_leads, 3, (some .int), false),
  (4, yX5_isServed, cX5_isServed, 1, (some .boolean), false),
  (5, yX6_init, cX6_init, 3, none, true),
  (5, yX6_leads, cX6_leads, 3, (some .int), false),
  (5, yX6_isServed, cX6_isServed, 1, (some .boolean), false),
  (6, yX7_init, cX7_init, 2, none, true),
  (6, yX7_begins, cX7_begins, 2, none, false),
  (6, yX7_sees, cX7_sees, 2, none, false),
  (6, yX7_lies, cX7_lies, 2, (some .int), false),
  (6, yX7_whyAct, cX7_whyAct, 7, (some .int), false),
  (6, yX7_be, cX7_be, 2, (some (.object "MovedSpan$State")), false),
  (6, yX7_goes, cX7_goes, 3, (some .int), false),
  (6, yX7_why, cX7_why, 3, (some .int), false),
  (6, yX7_does, cX7_does, 2, none, false),
  (7, yX8_init, cX8_init, 1, none, true),
  (7, yX8_many, cX8_many, 1, (some .int), false),
  (7, yX8_number, cX8_number, 2, (some .long), false),
  (7, yX8_puts, cX8_puts, 4, none, false),
  (8, yX9_init, cX9_init, 1, none, true),
  (8, yX9_plain, cX9_plain, 2, none, false),
  (8, yX9_feed, cX9_feed, 8, (some .int), false),
  (8, yX9_river, cX9_river, 3, (some .int), false),
  (8, yX9_within, cX9_within, 6, (some .boolean), false),
  (8, yX9_next, cX9_next, 2, none, false),
  (8, yX9_see, cX9_see, 2, (some .int), false),
  (8, yX9_isSmall, cX9_isSmall, 1, (some .boolean), false),
  (8, yX9_keyAt, cX9_keyAt, 4, (some .int), false),
  (8, yX9_isDigit, cX9_isDigit, 1, (some .boolean), false),
  (8, yX9_eats, cX9_eats, 2, (some .boolean), false),
  (8, yX9_is, cX9_is, 2, (some .boolean), false),
  (8, yX9_fails, cX9_fails, 2, none, false),
  (8, yX9_takes, cX9_takes, 4, (some .int), false),
  (8, yX9_ends, cX9_ends, 1, none, false),
  (8, yX9_readLine, cX9_readLine, 1, none, false),
  (8, yX9_readSpan, cX9_readSpan, 3, none, false),
  (8, yX9_readPerson, cX9_readPerson, 2, none, false),
  (8, yX9_readSpot, cX9_readSpot, 3, (some .int), false),
  (8, yX9_readFlag, cX9_readFlag, 4, (some .boolean), false),
  (8, yX9_readLaw, cX9_readLaw, 3, none, false),
  (8, yX9_readTruth, cX9_readTruth, 2, none, false),
  (8, yX9_readBoth, cX9_readBoth, 2, none, false),
  (8, yX9_readUnit, cX9_readUnit, 3, none, false),
  (8, yX9_goesIn, cX9_goesIn, 2, (some .boolean), false),
  (8, yX9_codes, cX9_codes, 2, none, false),
  (8, yX9_readSum, cX9_readSum, 3, none, false),
  (8, yX9_readTerm, cX9_readTerm, 2, none, false),
  (8, yX9_readAtom, cX9_readAtom, 2, none, false),
  (8, yX9_wordOf, cX9_wordOf, 2, (some .int), false),
  (8, yX9_doesErrands, cX9_doesErrands, 3, (some .int), false),
  (8, yX9_isIn, cX9_isIn, 3, (some .boolean), false),
  (8, yX9_fault, cX9_fault, 2, (some .int), false),
  (8, yX9_span, cX9_span, 2, (some .int), false),
  (8, yX9_spanIn, cX9_spanIn, 2, (some .int), false),
  (8, yX9_person, cX9_person, 3, (some .int), false),
  (8, yX9_isPerson, cX9_isPerson, 3, (some .boolean), false),
  (8, yX9_why, cX9_why, 3, (some .int), false),
  (8, yX9_whyTold, cX9_whyTold, 5, (some .int), false),
  (8, yX9_fogIn, cX9_fogIn, 2, (some .int), false),
  (8, yX9_whyAct, cX9_whyAct, 8, (some .int), false),
  (8, yX9_leads, cX9_leads, 4, (some .int), false),
  (8, yX9_lets, cX9_lets, 10, (some .boolean), false),
  (8, yX9_between, cX9_between, 5, (some .int), false),
  (8, yX9_act, cX9_act, 4, (some .int), false),
  (8, yX9_keeps, cX9_keeps, 2, none, false),
  (8, yX9_notes, cX9_notes, 2, none, false),
  (8, yX9_tell, cX9_tell, 3, (some .int), false),
  (8, yX9_fog, cX9_fog, 2, (some .int), false),
  (8, yX9_hours, cX9_hours, 4, (some .int), false),
  (8, yX9_goesHour, cX9_goesHour, 3, (some .int), false),
  (8, yX9_undo, cX9_undo, 3, (some .int), false),
  (8, yX9_judge, cX9_judge, 7, (some .int), false),
  (8, yX9_noTray, cX9_noTray, 2, (some .int), false),
  (8, yX9_tells, cX9_tells, 3, (some .int), false),
  (8, yX9_whyNot, cX9_whyNot, 3, (some .int), false),
  (8, yX9_does, cX9_does, 2, none, false),
  (8, yX9_isAgain, cX9_isAgain, 2, none, false),
  (8, yX9_perform, cX9_perform, 4, (some .int), false),
  (8, yX9_year, cX9_year, 6, (some .int), false),
  (8, yX9_drawn, cX9_drawn, 3, (some .int), false),
  (8, yX9_draw, cX9_draw, 2, (some .int), false),
  (8, yX9_soonest, cX9_soonest, 3, (some .int), false),
  (8, yX9_isSpot, cX9_isSpot, 3, (some .boolean), false),
  (8, yX9_soonestOf, cX9_soonestOf, 3, (some .int), false),
  (8, yX9_laysLets, cX9_laysLets, 6, none, false),
  (8, yX9_hoursTo, cX9_hoursTo, 6, (some .int), false),
  (8, yX9_goesOn, cX9_goesOn, 9, (some .int), false),
  (8, yX9_way, cX9_way, 5, (some .int), false),
  (8, yX9_laysWay, cX9_laysWay, 7, (some .int), false),
  (8, yX9_ways, cX9_ways, 7, (some .long), false),
  (8, yX9_reach, cX9_reach, 3, (some .int), false),
  (8, yX9_reachOf, cX9_reachOf, 5, (some .int), false),
  (8, yX9_meet, cX9_meet, 3, (some .int), false),
  (8, yX9_meetIn, cX9_meetIn, 4, (some .int), false),
  (8, yX9_meetAt, cX9_meetAt, 6, (some .int), false),
  (8, yX9_inTime, cX9_inTime, 1, (some .int), false),
  (8, yX9_inTimeSet, cX9_inTimeSet, 3, (some .int), false),
  (8, yX9_isErrand, cX9_isErrand, 2, (some .boolean), false),
  (8, yX9_isInTime, cX9_isInTime, 4, (some .boolean), false),
  (8, yX9_spare, cX9_spare, 4, (some .int), false),
  (8, yX9_needs, cX9_needs, 5, (some .int), false),
  (8, yX9_moves, cX9_moves, 1, (some .int), false),
  (8, yX9_movesNow, cX9_movesNow, 3, (some .int), false),
  (8, yX9_best, cX9_best, 2, (some .int), false),
  (8, yX9_laysWeeks, cX9_laysWeeks, 2, none, false),
  (8, yX9_keepsLets, cX9_keepsLets, 3, none, false),
  (8, yX9_goesWeeks, cX9_goesWeeks, 3, none, false),
  (8, yX9_laysWeek, cX9_laysWeek, 4, none, false),
  (8, yX9_inTimeMany, cX9_inTimeMany, 3, (some .int), false),
  (8, yX9_takesLets, cX9_takesLets, 3, none, false),
  (8, yX9_errandsMany, cX9_errandsMany, 3, (some .int), false),
  (8, yX9_weeks, cX9_weeks, 1, (some .int), false),
  (8, yX9_change, cX9_change, 7, (some .int), false),
  (8, yX9_shift, cX9_shift, 5, (some .int), false),
  (8, yX9_fits, cX9_fits, 5, (some .int), false),
  (8, yX9_noSeen, cX9_noSeen, 5, (some .int), false),
  (8, yX9_fitting, cX9_fitting, 7, (some .int), false),
  (8, yX9_oddIn, cX9_oddIn, 5, (some .int), false),
  (8, yX9_surest, cX9_surest, 8, (some .int), false),
  (8, yX9_bitsOf, cX9_bitsOf, 3, (some .int), false),
  (8, yX9_odd, cX9_odd, 4, (some .int), false),
  (8, yX9_chance, cX9_chance, 9, (some .long), false),
  (8, yX9_chanceOf, cX9_chanceOf, 9, (some .long), false),
  (8, yX9_bestOn, cX9_bestOn, 8, (some .long), false),
  (8, yX9_tens, cX9_tens, 4, (some .long), false),
  (8, yX9_common, cX9_common, 4, (some .long), false),
  (8, yX9_likely, cX9_likely, 5, (some .int), false),
  (8, yX9_numbers, cX9_numbers, 5, (some .int), false),
  (8, yX9_write, cX9_write, 6, (some .long), false),
  (8, yX9_cut, cX9_cut, 3, (some .long), false),
  (8, yX9_lists, cX9_lists, 8, (some .int), false),
  (8, yX9_image, cX9_image, 3, (some .int), false),
  (8, yX9_restore, cX9_restore, 3, (some .int), false),
  (8, yX9_count, cX9_count, 2, (some .int), false),
  (8, yX9_errandsSet, cX9_errandsSet, 3, (some .int), false),
  (8, yX9_onSpan, cX9_onSpan, 3, (some .int), false),
  (9, yX10_init, cX10_init, 3, none, true),
  (9, yX10_read, cX10_read, 1, none, false),
  (9, yX10_next, cX10_next, 1, none, false),
  (9, yX10_see, cX10_see, 2, (some .int), false),
  (9, yX10_isSmall, cX10_isSmall, 2, (some .boolean), false),
  (9, yX10_isDigit, cX10_isDigit, 2, (some .boolean), false),
  (9, yX10_mustWord, cX10_mustWord, 2, none, false),
  (9, yX10_takes, cX10_takes, 2, (some .boolean), false),
  (9, yX10_is, cX10_is, 3, (some .boolean), false),
  (9, yX10_wrong, cX10_wrong, 2, none, false),
  (9, yX10_number, cX10_number, 4, (some .int), false),
  (9, yX10_ends, cX10_ends, 1, none, false),
  (9, yX10_must, cX10_must, 2, none, false),
  (9, yX10_line, cX10_line, 1, none, false),
  (9, yX10_span, cX10_span, 3, none, false),
  (9, yX10_person, cX10_person, 2, none, false),
  (9, yX10_spot, cX10_spot, 2, (some .int), false),
  (9, yX10_flag, cX10_flag, 2, (some .boolean), false),
  (9, yX10_errand, cX10_errand, 4, none, false),
  (9, yX10_walks, cX10_walks, 2, none, false),
  (9, yX10_truth, cX10_truth, 2, (some (.object "MovedSpan$Truth")), false),
  (9, yX10_both, cX10_both, 2, (some (.object "MovedSpan$Truth")), false),
  (9, yX10_unit, cX10_unit, 3, (some (.object "MovedSpan$Truth")), false),
  (9, yX10_goesIn, cX10_goesIn, 1, none, false),
  (9, yX10_isSign, cX10_isSign, 2, (some .boolean), false),
  (9, yX10_sum, cX10_sum, 3, (some (.object "MovedSpan$Sum")), false),
  (9, yX10_term, cX10_term, 2, (some (.object "MovedSpan$Sum")), false),
  (9, yX10_atom, cX10_atom, 3, (some (.object "MovedSpan$Sum")), false),
  (9, yX10_word, cX10_word, 1, (some .int), false),
  (9, yX10_serves, cX10_serves, 2, none, false),
  (17, yX11_init, cX11_init, 1, none, true),
  (10, yX12_init, cX12_init, 2, none, true),
  (10, yX12_holds, cX12_holds, 2, (some .boolean), false),
  (18, yX13_init, cX13_init, 1, none, true),
  (11, yX14_init, cX14_init, 2, none, true),
  (11, yX14_value, cX14_value, 2, (some .int), false),
  (12, yX15_init, cX15_init, 2, none, true),
  (12, yX15_value, cX15_value, 2, (some .int), false),
  (13, yX16_init, cX16_init, 4, none, true),
  (13, yX16_value, cX16_value, 8, (some .int), false),
  (14, yX17_init, cX17_init, 4, none, true),
  (14, yX17_holds, cX17_holds, 4, (some .boolean), false),
  (15, yX18_init, cX18_init, 4, none, true),
  (15, yX18_holds, cX18_holds, 2, (some .boolean), false),
  (22, yJ0_indexOf, cJ0_indexOf, 2, (some .int), false),
  (22, yJ0_length, cJ0_length, 1, (some .int), false),
  (22, yJ0_charAt, cJ0_charAt, 2, (some .char), false),
  (21, yJ2_max, cJ2_max, 2, (some .int), false),
  (21, yJ2_min, cJ2_min, 2, (some .int), false),
  (21, yJ2_min_2, cJ2_min_2, 4, (some .long), false),
  (21, yJ2_max_2, cJ2_max_2, 4, (some .long), false),
  (20, yJ6_bitCount, cJ6_bitCount, 1, (some .int), false),
  (20, yJ6_numberOfTrailingZeros, cJ6_numberOfTrailingZeros, 2, (some .int), false),
  (0, yX0_write, cX0_write, 6, (some .long), false),
  (7, yX8_begins, cX8_begins, 4, (some .boolean), false)]
def ab_me (i : Nat) : ab_Me := ab_meT.getD i (0, yX0_init, cX0_init, 0, none, false)
abbrev mX0_init : Nat := 0
abbrev mX0_feed : Nat := 1
abbrev mX0_bytes : Nat := 2
abbrev mX0_river : Nat := 3
abbrev mX0_in : Nat := 4
abbrev mX0_fault : Nat := 5
abbrev mX0_span : Nat := 6
abbrev mX0_person : Nat := 7
abbrev mX0_isBody : Nat := 8
abbrev mX0_has : Nat := 9
abbrev mX0_why : Nat := 10
abbrev mX0_leads : Nat := 11
abbrev mX0_isAllowed : Nat := 12
abbrev mX0_act : Nat := 13
abbrev mX0_keeps : Nat := 14
abbrev mX0_tell : Nat := 15
abbrev mX0_fog : Nat := 16
abbrev mX0_hours : Nat := 17
abbrev mX0_undo : Nat := 18
abbrev mX0_judge : Nat := 19
abbrev mX0_trayFault : Nat := 20
abbrev mX0_isTray : Nat := 21
abbrev mX0_goes : Nat := 22
abbrev mX0_perform : Nat := 23
abbrev mX0_year : Nat := 24
abbrev mX0_told : Nat := 25
abbrev mX0_draw : Nat := 26
abbrev mX0_soonest : Nat := 27
abbrev mX0_isAsked : Nat := 28
abbrev mX0_laysOwn : Nat := 29
abbrev mX0_laysTables : Nat := 30
abbrev mX0_asksOwn : Nat := 31
abbrev mX0_hoursFrom : Nat := 32
abbrev mX0_onward : Nat := 33
abbrev mX0_hourIn : Nat := 34
abbrev mX0_fogIn : Nat := 35
abbrev mX0_leadsIn : Nat := 36
abbrev mX0_way : Nat := 37
abbrev mX0_laysWay : Nat := 38
abbrev mX0_isGood : Nat := 39
abbrev mX0_ways : Nat := 40
abbrev mX0_counts : Nat := 41
abbrev mX0_reach : Nat := 42
abbrev mX0_reachOf : Nat := 43
abbrev mX0_meet : Nat := 44
abbrev mX0_areTwo : Nat := 45
abbrev mX0_meets : Nat := 46
abbrev mX0_meetAt : Nat := 47
abbrev mX0_inTime : Nat := 48
abbrev mX0_inTimeSet : Nat := 49
abbrev mX0_isInTime : Nat := 50
abbrev mX0_spare : Nat := 51
abbrev mX0_needs : Nat := 52
abbrev mX0_moves : Nat := 53
abbrev mX0_movesOf : Nat := 54
abbrev mX0_best : Nat := 55
abbrev mX0_laysWeeks : Nat := 56
abbrev mX0_goesWeeks : Nat := 57
abbrev mX0_sees : Nat := 58
abbrev mX0_weeks : Nat := 59
abbrev mX0_change : Nat := 60
abbrev mX0_shift : Nat := 61
abbrev mX0_fits : Nat := 62
abbrev mX0_seenFault : Nat := 63
abbrev mX0_fitting : Nat := 64
abbrev mX0_firstOdd : Nat := 65
abbrev mX0_spots : Nat := 66
abbrev mX0_surest : Nat := 67
abbrev mX0_odd : Nat := 68
abbrev mX0_chance : Nat := 69
abbrev mX0_chanceOf : Nat := 70
abbrev mX0_tens : Nat := 71
abbrev mX0_likeliest : Nat := 72
abbrev mX0_common : Nat := 73
abbrev mX0_likely : Nat := 74
abbrev mX0_numbers : Nat := 75
abbrev mX0_lists : Nat := 76
abbrev mX0_image : Nat := 77
abbrev mX0_restore : Nat := 78
abbrev mX0_count : Nat := 79
abbrev mX0_riders : Nat := 80
abbrev mX1_init : Nat := 81
abbrev mX1_serves : Nat := 82
abbrev mX1_lays : Nat := 83
abbrev mX1_walks : Nat := 84
abbrev mX1_isSpot : Nat := 85
abbrev mX1_errands : Nat := 86
abbrev mX2_init : Nat := 87
abbrev mX2_gap : Nat := 88
abbrev mX3_init : Nat := 89
abbrev mX3_leads : Nat := 90
abbrev mX3_isServed : Nat := 91
abbrev mX4_init : Nat := 92
abbrev mX4_leads : Nat := 93
abbrev mX4_isServed : Nat := 94
abbrev mX5_init : Nat := 95
abbrev mX5_leads : Nat := 96
abbrev mX5_isServed : Nat := 97
abbrev mX6_init : Nat := 98
abbrev mX6_leads : Nat := 99
abbrev mX6_isServed : Nat := 100
abbrev mX7_init : Nat := 101
abbrev mX7_begins : Nat := 102
abbrev mX7_sees : Nat := 103
abbrev mX7_lies : Nat := 104
abbrev mX7_whyAct : Nat := 105
abbrev mX7_be : Nat := 106
abbrev mX7_goes : Nat := 107
abbrev mX7_why : Nat := 108
abbrev mX7_does : Nat := 109
abbrev mX8_init : Nat := 110
abbrev mX8_many : Nat := 111
abbrev mX8_number : Nat := 112
abbrev mX8_puts : Nat := 113
abbrev mX9_init : Nat := 114
abbrev mX9_plain : Nat := 115
abbrev mX9_feed : Nat := 116
abbrev mX9_river : Nat := 117
abbrev mX9_within : Nat := 118
abbrev mX9_next : Nat := 119
abbrev mX9_see : Nat := 120
abbrev mX9_isSmall : Nat := 121
abbrev mX9_keyAt : Nat := 122
abbrev mX9_isDigit : Nat := 123
abbrev mX9_eats : Nat := 124
abbrev mX9_is : Nat := 125
abbrev mX9_fails : Nat := 126
abbrev mX9_takes : Nat := 127
abbrev mX9_ends : Nat := 128
abbrev mX9_readLine : Nat := 129
abbrev mX9_readSpan : Nat := 130
abbrev mX9_readPerson : Nat := 131
abbrev mX9_readSpot : Nat := 132
abbrev mX9_readFlag : Nat := 133
abbrev mX9_readLaw : Nat := 134
abbrev mX9_readTruth : Nat := 135
abbrev mX9_readBoth : Nat := 136
abbrev mX9_readUnit : Nat := 137
abbrev mX9_goesIn : Nat := 138
abbrev mX9_codes : Nat := 139
abbrev mX9_readSum : Nat := 140
abbrev mX9_readTerm : Nat := 141
abbrev mX9_readAtom : Nat := 142
abbrev mX9_wordOf : Nat := 143
abbrev mX9_doesErrands : Nat := 144
abbrev mX9_isIn : Nat := 145
abbrev mX9_fault : Nat := 146
abbrev mX9_span : Nat := 147
abbrev mX9_spanIn : Nat := 148
abbrev mX9_person : Nat := 149
abbrev mX9_isPerson : Nat := 150
abbrev mX9_why : Nat := 151
abbrev mX9_whyTold : Nat := 152
abbrev mX9_fogIn : Nat := 153
abbrev mX9_whyAct : Nat := 154
abbrev mX9_leads : Nat := 155
abbrev mX9_lets : Nat := 156
abbrev mX9_between : Nat := 157
abbrev mX9_act : Nat := 158
abbrev mX9_keeps : Nat := 159
abbrev mX9_notes : Nat := 160
abbrev mX9_tell : Nat := 161
abbrev mX9_fog : Nat := 162
abbrev mX9_hours : Nat := 163
abbrev mX9_goesHour : Nat := 164
abbrev mX9_undo : Nat := 165
abbrev mX9_judge : Nat := 166
abbrev mX9_noTray : Nat := 167
abbrev mX9_tells : Nat := 168
abbrev mX9_whyNot : Nat := 169
abbrev mX9_does : Nat := 170
abbrev mX9_isAgain : Nat := 171
abbrev mX9_perform : Nat := 172
abbrev mX9_year : Nat := 173
abbrev mX9_drawn : Nat := 174
abbrev mX9_draw : Nat := 175
abbrev mX9_soonest : Nat := 176
abbrev mX9_isSpot : Nat := 177
abbrev mX9_soonestOf : Nat := 178
abbrev mX9_laysLets : Nat := 179
abbrev mX9_hoursTo : Nat := 180
abbrev mX9_goesOn : Nat := 181
abbrev mX9_way : Nat := 182
abbrev mX9_laysWay : Nat := 183
abbrev mX9_ways : Nat := 184
abbrev mX9_reach : Nat := 185
abbrev mX9_reachOf : Nat := 186
abbrev mX9_meet : Nat := 187
abbrev mX9_meetIn : Nat := 188
abbrev mX9_meetAt : Nat := 189
abbrev mX9_inTime : Nat := 190
abbrev mX9_inTimeSet : Nat := 191
abbrev mX9_isErrand : Nat := 192
abbrev mX9_isInTime : Nat := 193
abbrev mX9_spare : Nat := 194
abbrev mX9_needs : Nat := 195
abbrev mX9_moves : Nat := 196
abbrev mX9_movesNow : Nat := 197
abbrev mX9_best : Nat := 198
abbrev mX9_laysWeeks : Nat := 199
abbrev mX9_keepsLets : Nat := 200
abbrev mX9_goesWeeks : Nat := 201
abbrev mX9_laysWeek : Nat := 202
abbrev mX9_inTimeMany : Nat := 203
abbrev mX9_takesLets : Nat := 204
abbrev mX9_errandsMany : Nat := 205
abbrev mX9_weeks : Nat := 206
abbrev mX9_change : Nat := 207
abbrev mX9_shift : Nat := 208
abbrev mX9_fits : Nat := 209
abbrev mX9_noSeen : Nat := 210
abbrev mX9_fitting : Nat := 211
abbrev mX9_oddIn : Nat := 212
abbrev mX9_surest : Nat := 213
abbrev mX9_bitsOf : Nat := 214
abbrev mX9_odd : Nat := 215
abbrev mX9_chance : Nat := 216
abbrev mX9_chanceOf : Nat := 217
abbrev mX9_bestOn : Nat := 218
abbrev mX9_tens : Nat := 219
abbrev mX9_common : Nat := 220
abbrev mX9_likely : Nat := 221
abbrev mX9_numbers : Nat := 222
abbrev mX9_write : Nat := 223
abbrev mX9_cut : Nat := 224
abbrev mX9_lists : Nat := 225
abbrev mX9_image : Nat := 226
abbrev mX9_restore : Nat := 227
abbrev mX9_count : Nat := 228
abbrev mX9_errandsSet : Nat := 229
abbrev mX9_onSpan : Nat := 230
abbrev mX10_init : Nat := 231
abbrev mX10_read : Nat := 232
abbrev mX10_next : Nat := 233
abbrev mX10_see : Nat := 234
abbrev mX10_isSmall : Nat := 235
abbrev mX10_isDigit : Nat := 236
abbrev mX10_mustWord : Nat := 237
abbrev mX10_takes : Nat := 238
abbrev mX10_is : Nat := 239
abbrev mX10_wrong : Nat := 240
abbrev mX10_number : Nat := 241
abbrev mX10_ends : Nat := 242
abbrev mX10_must : Nat := 243
abbrev mX10_line : Nat := 244
abbrev mX10_span : Nat := 245
abbrev mX10_person : Nat := 246
abbrev mX10_spot : Nat := 247
abbrev mX10_flag : Nat := 248
abbrev mX10_errand : Nat := 249
abbrev mX10_walks : Nat := 250
abbrev mX10_truth : Nat := 251
abbrev mX10_both : Nat := 252
abbrev mX10_unit : Nat := 253
abbrev mX10_goesIn : Nat := 254
abbrev mX10_isSign : Nat := 255
abbrev mX10_sum : Nat := 256
abbrev mX10_term : Nat := 257
abbrev mX10_atom : Nat := 258
abbrev mX10_word : Nat := 259
abbrev mX10_serves : Nat := 260
abbrev mX11_init : Nat := 261
abbrev mX12_init : Nat := 262
abbrev mX12_holds : Nat := 263
abbrev mX13_init : Nat := 264
abbrev mX14_init : Nat := 265
abbrev mX14_value : Nat := 266
abbrev mX15_init : Nat := 267
abbrev mX15_value : Nat := 268
abbrev mX16_init : Nat := 269
abbrev mX16_value : Nat := 270
abbrev mX17_init : Nat := 271
abbrev mX17_holds : Nat := 272
abbrev mX18_init : Nat := 273
abbrev mX18_holds : Nat := 274
abbrev mJ0_indexOf : Nat := 275
abbrev mJ0_length : Nat := 276
abbrev mJ0_charAt : Nat := 277
abbrev mJ2_max : Nat := 278
abbrev mJ2_min : Nat := 279
abbrev mJ2_min_2 : Nat := 280
abbrev mJ2_max_2 : Nat := 281
abbrev mJ6_bitCount : Nat := 282
abbrev mJ6_numberOfTrailingZeros : Nat := 283
abbrev mX0_write : Nat := 284
abbrev mX8_begins : Nat := 285
def ab_lvT : List (Nat × Nat × Nat × Nat) := [(0, 122, 6, 102), (0, 128, 0, 2), (0, 139, 9, 232), (0, 165, 6, 104), (0, 169, 0, 8), (0, 195, 6, 105), (0, 31, 2, 90), (0, 31, 3, 93), (0, 31, 4, 96), (0, 31, 5, 99), (0, 7, 2, 88), (0, 7, 3, 88), (0, 7, 4, 88), (0, 7, 5, 88), (0, 13, 2, 91), (0, 13, 3, 94), (0, 13, 4, 97), (0, 13, 5, 100), (0, 21, 1, 82), (0, 27, 1, 84), (0, 211, 0, 14), (0, 202, 6, 106), (0, 214, 0, 11), (0, 235, 6, 107), (0, 254, 0, 20), (0, 257, 0, 22), (0, 239, 7, 111), (0, 241, 7, 112), (0, 245, 6, 108), (0, 249, 6, 109), (0, 272, 0, 25), (0, 267, 0, 26), (0, 303, 0, 28), (0, 293, 1, 85), (0, 306, 0, 29), (0, 297, 0, 30), (0, 300, 0, 31), (0, 309, 0, 32), (0, 290, 0, 33), (0, 280, 0, 34), (0, 283, 0, 35), (0, 286, 0, 36), (0, 316, 0, 38), (0, 313, 0, 39), (0, 325, 0, 41), (0, 331, 0, 43), (0, 337, 0, 45), (0, 340, 0, 46), (0, 351, 0, 49), (0, 348, 0, 50), (0, 354, 0, 54), (0, 380, 0, 56), (0, 360, 0, 57), (0, 357, 0, 58), (0, 369, 1, 86), (0, 390, 0, 63), (0, 393, 0, 64), (0, 386, 0, 65), (0, 383, 0, 66), (0, 416, 0, 70), (0, 407, 0, 72), (0, 429, 7, 285), (0, 431, 7, 113), (0, 442, 0, 80), (1, 41, 1, 83), (1, 45, 10, 263), (1, 45, 14, 272), (1, 45, 15, 274), (6, 50, 6, 103), (6, 71, 6, 104), (6, 88, 6, 105), (6, 117, 6, 107), (8, 150, 8, 119), (8, 119, 8, 120), (8, 130, 8, 122), (8, 176, 8, 124), (8, 147, 8, 125), (8, 153, 8, 126), (8, 194, 8, 127), (8, 213, 8, 128), (8, 216, 8, 129), (8, 204, 8, 130), (8, 207, 8, 131), (8, 198, 8, 132), (8, 201, 8, 133), (8, 210, 8, 134), (8, 188, 8, 135), (8, 191, 8, 136), (8, 185, 8, 137), (8, 170, 8, 138), (8, 164, 8, 139), (8, 173, 8, 140), (8, 182, 8, 141), (8, 179, 8, 142), (8, 167, 8, 143), (8, 222, 8, 144), (8, 235, 8, 148), (8, 245, 8, 150), (8, 264, 8, 152), (8, 251, 8, 153), (8, 254, 8, 154), (8, 238, 8, 155), (8, 241, 8, 156), (8, 268, 8, 159), (8, 271, 8, 160), (8, 280, 8, 164), (8, 309, 8, 167), (8, 312, 8, 168), (8, 300, 8, 169), (8, 304, 8, 170), (8, 315, 8, 171), (8, 327, 8, 174), (8, 322, 8, 175), (8, 339, 8, 177), (8, 342, 8, 178), (8, 333, 8, 179), (8, 336, 8, 180), (8, 330, 8, 181), (8, 345, 8, 183), (8, 356, 8, 186), (8, 359, 8, 188), (8, 369, 8, 191), (8, 362, 8, 192), (8, 365, 8, 193), (8, 384, 8, 197), (8, 402, 8, 199), (8, 399, 8, 200), (8, 378, 8, 201), (8, 375, 8, 202), (8, 381, 8, 203), (8, 372, 8, 204), (8, 390, 8, 205), (8, 408, 8, 210), (8, 411, 8, 211), (8, 405, 8, 212), (8, 425, 8, 217), (8, 417, 8, 218), (8, 438, 8, 229), (8, 441, 8, 230), (9, 90, 9, 233), (9, 33, 9, 234), (9, 58, 9, 235), (9, 62, 9, 236), (9, 102, 9, 237), (9, 97, 9, 238), (9, 86, 9, 239), (9, 93, 9, 240), (9, 106, 9, 241), (9, 117, 9, 242), (9, 123, 9, 243), (9, 120, 9, 244), (9, 131, 9, 245), (9, 135, 9, 246), (9, 169, 9, 247), (9, 178, 9, 248), (9, 187, 9, 249), (9, 139, 9, 250), (9, 195, 9, 251), (9, 207, 9, 252), (9, 217, 9, 253), (9, 224, 9, 254), (9, 232, 9, 255), (9, 235, 9, 256), (9, 244, 9, 257), (9, 250, 9, 258), (9, 261, 9, 259), (9, 143, 9, 260), (10, 13, 10, 263), (10, 13, 14, 272), (10, 13, 15, 274), (13, 22, 11, 266), (13, 22, 12, 268), (13, 22, 13, 270), (14, 20, 11, 266), (14, 20, 12, 268), (14, 20, 13, 270), (15, 20, 10, 263), (15, 20, 14, 272), (15, 20, 15, 274), (19, 13, 0, 1), (19, 18, 0, 3), (19, 23, 0, 5), (19, 27, 0, 6), (19, 31, 0, 7), (19, 36, 0, 10), (19, 40, 0, 13), (19, 44, 0, 15), (19, 48, 0, 16), (19, 52, 0, 17), (19, 56, 0, 18), (19, 60, 0, 19), (19, 64, 0, 23), (19, 68, 0, 24), (19, 72, 0, 27), (19, 76, 0, 37), (19, 81, 0, 40), (19, 86, 0, 42), (19, 90, 0, 44), (19, 94, 0, 47), (19, 98, 0, 48), (19, 103, 0, 51), (19, 107, 0, 52), (19, 111, 0, 53), (19, 115, 0, 55), (19, 123, 0, 59), (19, 119, 0, 60), (19, 127, 0, 61), (19, 131, 0, 62), (19, 135, 0, 67), (19, 139, 0, 68), (19, 143, 0, 69), (19, 148, 0, 74), (19, 152, 0, 75), (19, 158, 0, 284), (19, 163, 0, 76), (19, 167, 0, 77), (19, 171, 0, 78), (19, 175, 0, 79), (19, 17, 8, 116), (19, 22, 8, 117), (19, 26, 8, 146), (19, 30, 8, 147), (19, 35, 8, 149), (19, 39, 8, 151), (19, 43, 8, 158), (19, 47, 8, 161), (19, 51, 8, 162), (19, 55, 8, 163), (19, 59, 8, 165), (19, 63, 8, 166), (19, 67, 8, 172), (19, 71, 8, 173), (19, 75, 8, 176), (19, 80, 8, 182), (19, 85, 8, 184), (19, 89, 8, 185), (19, 93, 8, 187), (19, 97, 8, 189), (19, 102, 8, 190), (19, 106, 8, 194), (19, 110, 8, 195), (19, 114, 8, 196), (19, 118, 8, 198), (19, 126, 8, 206), (19, 122, 8, 207), (19, 130, 8, 208), (19, 134, 8, 209), (19, 138, 8, 213), (19, 142, 8, 215), (19, 147, 8, 216), (19, 151, 8, 221), (19, 155, 8, 222), (19, 162, 8, 223), (19, 166, 8, 225), (19, 170, 8, 226), (19, 174, 8, 227), (19, 178, 8, 228), (6, 75, 0, 11), (6, 79, 0, 12)]
def ab_lv (own idx c : Nat) : Option Nat := (ab_lvT.find? (fun e => e.1 == own && (e.2.1 == idx && e.2.2.1 == c))).map (fun e => e.2.2.2)
theorem ab_lv_0_122_6 : ab_lv 0 122 6 = some 102 := by decide +kernel
theorem ab_lv_0_128_0 : ab_lv 0 128 0 = some 2 := by decide +kernel
theorem ab_lv_0_139_9 : ab_lv 0 139 9 = some 232 := by decide +kernel
theorem ab_lv_0_165_6 : ab_lv 0 165 6 = some 104 := by decide +kernel
theorem ab_lv_0_169_0 : ab_lv 0 169 0 = some 8 := by decide +kernel
theorem ab_lv_0_195_6 : ab_lv 0 195 6 = some 105 := by decide +kernel
theorem ab_lv_0_31_2 : ab_lv 0 31 2 = some 90 := by decide +kernel
theorem ab_lv_0_31_3 : ab_lv 0 31 3 = some 93 := by decide +kernel
theorem ab_lv_0_31_4 : ab_lv 0 31 4 = some 96 := by decide +kernel
theorem ab_lv_0_31_5 : ab_lv 0 31 5 = some 99 := by decide +kernel
theorem ab_lv_0_7_2 : ab_lv 0 7 2 = some 88 := by decide +kernel
theorem ab_lv_0_7_3 : ab_lv 0 7 3 = some 88 := by decide +kernel
theorem ab_lv_0_7_4 : ab_lv 0 7 4 = some 88 := by decide +kernel
theorem ab_lv_0_7_5 : ab_lv 0 7 5 = some 88 := by decide +kernel
theorem ab_lv_0_13_2 : ab_lv 0 13 2 = some 91 := by decide +kernel
theorem ab_lv_0_13_3 : ab_lv 0 13 3 = some 94 := by decide +kernel
theorem ab_lv_0_13_4 : ab_lv 0 13 4 = some 97 := by decide +kernel
theorem ab_lv_0_13_5 : ab_lv 0 13 5 = some 100 := by decide +kernel
theorem ab_lv_0_21_1 : ab_lv 0 21 1 = some 82 := by decide +kernel
theorem ab_lv_0_27_1 : ab_lv 0 27 1 = some 84 := by decide +kernel
theorem ab_lv_0_211_0 : ab_lv 0 211 0 = some 14 := by decide +kernel
theorem ab_lv_0_202_6 : ab_lv 0 202 6 = some 106 := by decide +kernel
theorem ab_lv_0_214_0 : ab_lv 0 214 0 = some 11 := by decide +kernel
theorem ab_lv_0_235_6 : ab_lv 0 235 6 = some 107 := by decide +kernel
theorem ab_lv_0_254_0 : ab_lv 0 254 0 = some 20 := by decide +kernel
theorem ab_lv_0_257_0 : ab_lv 0 257 0 = some 22 := by decide +kernel
theorem ab_lv_0_239_7 : ab_lv 0 239 7 = some 111 := by decide +kernel
theorem ab_lv_0_241_7 : ab_lv 0 241 7 = some 112 := by decide +kernel
theorem ab_lv_0_245_6 : ab_lv 0 245 6 = some 108 := by decide +kernel
theorem ab_lv_0_249_6 : ab_lv 0 249 6 = some 109 := by decide +kernel
theorem ab_lv_0_272_0 : ab_lv 0 272 0 = some 25 := by decide +kernel
theorem ab_lv_0_267_0 : ab_lv 0 267 0 = some 26 := by decide +kernel
theorem ab_lv_0_303_0 : ab_lv 0 303 0 = some 28 := by decide +kernel
theorem ab_lv_0_293_1 : ab_lv 0 293 1 = some 85 := by decide +kernel
theorem ab_lv_0_306_0 : ab_lv 0 306 0 = some 29 := by decide +kernel
theorem ab_lv_0_297_0 : ab_lv 0 297 0 = some 30 := by decide +kernel
theorem ab_lv_0_300_0 : ab_lv 0 300 0 = some 31 := by decide +kernel
theorem ab_lv_0_309_0 : ab_lv 0 309 0 = some 32 := by decide +kernel
theorem ab_lv_0_290_0 : ab_lv 0 290 0 = some 33 := by decide +kernel
theorem ab_lv_0_280_0 : ab_lv 0 280 0 = some 34 := by decide +kernel
theorem ab_lv_0_283_0 : ab_lv 0 283 0 = some 35 := by decide +kernel
theorem ab_lv_0_286_0 : ab_lv 0 286 0 = some 36 := by decide +kernel
theorem ab_lv_0_316_0 : ab_lv 0 316 0 = some 38 := by decide +kernel
theorem ab_lv_0_313_0 : ab_lv 0 313 0 = some 39 := by decide +kernel
theorem ab_lv_0_325_0 : ab_lv 0 325 0 = some 41 := by decide +kernel
theorem ab_lv_0_331_0 : ab_lv 0 331 0 = some 43 := by decide +kernel
theorem ab_lv_0_337_0 : ab_lv 0 337 0 = some 45 := by decide +kernel
theorem ab_lv_0_340_0 : ab_lv 0 340 0 = some 46 := by decide +kernel
theorem ab_lv_0_351_0 : ab_lv 0 351 0 = some 49 := by decide +kernel
theorem ab_lv_0_348_0 : ab_lv 0 348 0 = some 50 := by decide +kernel
theorem ab_lv_0_354_0 : ab_lv 0 354 0 = some 54 := by decide +kernel
theorem ab_lv_0_380_0 : ab_lv 0 380 0 = some 56 := by decide +kernel
theorem ab_lv_0_360_0 : ab_lv 0 360 0 = some 57 := by decide +kernel
theorem ab_lv_0_357_0 : ab_lv 0 357 0 = some 58 := by decide +kernel
theorem ab_lv_0_369_1 : ab_lv 0 369 1 = some 86 := by decide +kernel
theorem ab_lv_0_390_0 : ab_lv 0 390 0 = some 63 := by decide +kernel
theorem ab_lv_0_393_0 : ab_lv 0 393 0 = some 64 := by decide +kernel
theorem ab_lv_0_386_0 : ab_lv 0 386 0 = some 65 := by decide +kernel
theorem ab_lv_0_383_0 : ab_lv 0 383 0 = some 66 := by decide +kernel
theorem ab_lv_0_416_0 : ab_lv 0 416 0 = some 70 := by decide +kernel
theorem ab_lv_0_407_0 : ab_lv 0 407 0 = some 72 := by decide +kernel
theorem ab_lv_0_429_7 : ab_lv 0 429 7 = some 285 := by decide +kernel
theorem ab_lv_0_431_7 : ab_lv 0 431 7 = some 113 := by decide +kernel
theorem ab_lv_0_442_0 : ab_lv 0 442 0 = some 80 := by decide +kernel
theorem ab_lv_1_41_1 : ab_lv 1 41 1 = some 83 := by decide +kernel
theorem ab_lv_1_45_10 : ab_lv 1 45 10 = some 263 := by decide +kernel
theorem ab_lv_1_45_14 : ab_lv 1 45 14 = some 272 := by decide +kernel
theorem ab_lv_1_45_15 : ab_lv 1 45 15 = some 274 := by decide +kernel
theorem ab_lv_6_50_6 : ab_lv 6 50 6 = some 103 := by decide +kernel
theorem ab_lv_6_71_6 : ab_lv 6 71 6 = some 104 := by decide +kernel
theorem ab_lv_6_88_6 : ab_lv 6 88 6 = some 105 := by decide +kernel
theorem ab_lv_6_117_6 : ab_lv 6 117 6 = some 107 := by decide +kernel
theorem ab_lv_8_150_8 : ab_lv 8 150 8 = some 119 := by decide +kernel
theorem ab_lv_8_119_8 : ab_lv 8 119 8 = some 120 := by decide +kernel
theorem ab_lv_8_130_8 : ab_lv 8 130 8 = some 122 := by decide +kernel
theorem ab_lv_8_176_8 : ab_lv 8 176 8 = some 124 := by decide +kernel
theorem ab_lv_8_147_8 : ab_lv 8 147 8 = some 125 := by decide +kernel
theorem ab_lv_8_153_8 : ab_lv 8 153 8 = some 126 := by decide +kernel
theorem ab_lv_8_194_8 : ab_lv 8 194 8 = some 127 := by decide +kernel
theorem ab_lv_8_213_8 : ab_lv 8 213 8 = some 128 := by decide +kernel
theorem ab_lv_8_216_8 : ab_lv 8 216 8 = some 129 := by decide +kernel
theorem ab_lv_8_204_8 : ab_lv 8 204 8 = some 130 := by decide +kernel
theorem ab_lv_8_207_8 : ab_lv 8 207 8 = some 131 := by decide +kernel
theorem ab_lv_8_198_8 : ab_lv 8 198 8 = some 132 := by decide +kernel
theorem ab_lv_8_201_8 : ab_lv 8 201 8 = some 133 := by decide +kernel
theorem ab_lv_8_210_8 : ab_lv 8 210 8 = some 134 := by decide +kernel
theorem ab_lv_8_188_8 : ab_lv 8 188 8 = some 135 := by decide +kernel
theorem ab_lv_8_191_8 : ab_lv 8 191 8 = some 136 := by decide +kernel
theorem ab_lv_8_185_8 : ab_lv 8 185 8 = some 137 := by decide +kernel
theorem ab_lv_8_170_8 : ab_lv 8 170 8 = some 138 := by decide +kernel
theorem ab_lv_8_164_8 : ab_lv 8 164 8 = some 139 := by decide +kernel
theorem ab_lv_8_173_8 : ab_lv 8 173 8 = some 140 := by decide +kernel
theorem ab_lv_8_182_8 : ab_lv 8 182 8 = some 141 := by decide +kernel
theorem ab_lv_8_179_8 : ab_lv 8 179 8 = some 142 := by decide +kernel
theorem ab_lv_8_167_8 : ab_lv 8 167 8 = some 143 := by decide +kernel
theorem ab_lv_8_222_8 : ab_lv 8 222 8 = some 144 := by decide +kernel
theorem ab_lv_8_235_8 : ab_lv 8 235 8 = some 148 := by decide +kernel
theorem ab_lv_8_245_8 : ab_lv 8 245 8 = some 150 := by decide +kernel
theorem ab_lv_8_264_8 : ab_lv 8 264 8 = some 152 := by decide +kernel
theorem ab_lv_8_251_8 : ab_lv 8 251 8 = some 153 := by decide +kernel
theorem ab_lv_8_254_8 : ab_lv 8 254 8 = some 154 := by decide +kernel
theorem ab_lv_8_238_8 : ab_lv 8 238 8 = some 155 := by decide +kernel
theorem ab_lv_8_241_8 : ab_lv 8 241 8 = some 156 := by decide +kernel
theorem ab_lv_8_268_8 : ab_lv 8 268 8 = some 159 := by decide +kernel
theorem ab_lv_8_271_8 : ab_lv 8 271 8 = some 160 := by decide +kernel
theorem ab_lv_8_280_8 : ab_lv 8 280 8 = some 164 := by decide +kernel
theorem ab_lv_8_309_8 : ab_lv 8 309 8 = some 167 := by decide +kernel
theorem ab_lv_8_312_8 : ab_lv 8 312 8 = some 168 := by decide +kernel
theorem ab_lv_8_300_8 : ab_lv 8 300 8 = some 169 := by decide +kernel
theorem ab_lv_8_304_8 : ab_lv 8 304 8 = some 170 := by decide +kernel
theorem ab_lv_8_315_8 : ab_lv 8 315 8 = some 171 := by decide +kernel
theorem ab_lv_8_327_8 : ab_lv 8 327 8 = some 174 := by decide +kernel
theorem ab_lv_8_322_8 : ab_lv 8 322 8 = some 175 := by decide +kernel
theorem ab_lv_8_339_8 : ab_lv 8 339 8 = some 177 := by decide +kernel
theorem ab_lv_8_342_8 : ab_lv 8 342 8 = some 178 := by decide +kernel
theorem ab_lv_8_333_8 : ab_lv 8 333 8 = some 179 := by decide +kernel
theorem ab_lv_8_336_8 : ab_lv 8 336 8 = some 180 := by decide +kernel
theorem ab_lv_8_330_8 : ab_lv 8 330 8 = some 181 := by decide +kernel
theorem ab_lv_8_345_8 : ab_lv 8 345 8 = some 183 := by decide +kernel
theorem ab_lv_8_356_8 : ab_lv 8 356 8 = some 186 := by decide +kernel
theorem ab_lv_8_359_8 : ab_lv 8 359 8 = some 188 := by decide +kernel
theorem ab_lv_8_369_8 : ab_lv 8 369 8 = some 191 := by decide +kernel
theorem ab_lv_8_362_8 : ab_lv 8 362 8 = some 192 := by decide +kernel
theorem ab_lv_8_365_8 : ab_lv 8 365 8 = some 193 := by decide +kernel
theorem ab_lv_8_384_8 : ab_lv 8 384 8 = some 197 := by decide +kernel
theorem ab_lv_8_402_8 : ab_lv 8 402 8 = some 199 := by decide +kernel
theorem ab_lv_8_399_8 : ab_lv 8 399 8 = some 200 := by decide +kernel
theorem ab_lv_8_378_8 : ab_lv 8 378 8 = some 201 := by decide +kernel
theorem ab_lv_8_375_8 : ab_lv 8 375 8 = some 202 := by decide +kernel
theorem ab_lv_8_381_8 : ab_lv 8 381 8 = some 203 := by decide +kernel
theorem ab_lv_8_372_8 : ab_lv 8 372 8 = some 204 := by decide +kernel
theorem ab_lv_8_390_8 : ab_lv 8 390 8 = some 205 := by decide +kernel
theorem ab_lv_8_408_8 : ab_lv 8 408 8 = some 210 := by decide +kernel
theorem ab_lv_8_411_8 : ab_lv 8 411 8 = some 211 := by decide +kernel
theorem ab_lv_8_405_8 : ab_lv 8 405 8 = some 212 := by decide +kernel
theorem ab_lv_8_425_8 : ab_lv 8 425 8 = some 217 := by decide +kernel
theorem ab_lv_8_417_8 : ab_lv 8 417 8 = some 218 := by decide +kernel
theorem ab_lv_8_438_8 : ab_lv 8 438 8 = some 229 := by decide +kernel
theorem ab_lv_8_441_8 : ab_lv 8 441 8 = some 230 := by decide +kernel
theorem ab_lv_9_90_9 : ab_lv 9 90 9 = some 233 := by decide +kernel
theorem ab_lv_9_33_9 : ab_lv 9 33 9 = some 234 := by decide +kernel
theorem ab_lv_9_58_9 : ab_lv 9 58 9 = some 235 := by decide +kernel
theorem ab_lv_9_62_9 : ab_lv 9 62 9 = some 236 := by decide +kernel
theorem ab_lv_9_102_9 : ab_lv 9 102 9 = some 237 := by decide +kernel
theorem ab_lv_9_97_9 : ab_lv 9 97 9 = some 238 := by decide +kernel
theorem ab_lv_9_86_9 : ab_lv 9 86 9 = some 239 := by decide +kernel
theorem ab_lv_9_93_9 : ab_lv 9 93 9 = some 240 := by decide +kernel
theorem ab_lv_9_106_9 : ab_lv 9 106 9 = some 241 := by decide +kernel
theorem ab_lv_9_117_9 : ab_lv 9 117 9 = some 242 := by decide +kernel
theorem ab_lv_9_123_9 : ab_lv 9 123 9 = some 243 := by decide +kernel
theorem ab_lv_9_120_9 : ab_lv 9 120 9 = some 244 := by decide +kernel
theorem ab_lv_9_131_9 : ab_lv 9 131 9 = some 245 := by decide +kernel
theorem ab_lv_9_135_9 : ab_lv 9 135 9 = some 246 := by decide +kernel
theorem ab_lv_9_169_9 : ab_lv 9 169 9 = some 247 := by decide +kernel
theorem ab_lv_9_178_9 : ab_lv 9 178 9 = some 248 := by decide +kernel
theorem ab_lv_9_187_9 : ab_lv 9 187 9 = some 249 := by decide +kernel
theorem ab_lv_9_139_9 : ab_lv 9 139 9 = some 250 := by decide +kernel
theorem ab_lv_9_195_9 : ab_lv 9 195 9 = some 251 := by decide +kernel
theorem ab_lv_9_207_9 : ab_lv 9 207 9 = some 252 := by decide +kernel
theorem ab_lv_9_217_9 : ab_lv 9 217 9 = some 253 := by decide +kernel
theorem ab_lv_9_224_9 : ab_lv 9 224 9 = some 254 := by decide +kernel
theorem ab_lv_9_232_9 : ab_lv 9 232 9 = some 255 := by decide +kernel
theorem ab_lv_9_235_9 : ab_lv 9 235 9 = some 256 := by decide +kernel
theorem ab_lv_9_244_9 : ab_lv 9 244 9 = some 257 := by decide +kernel
theorem ab_lv_9_250_9 : ab_lv 9 250 9 = some 258 := by decide +kernel
theorem ab_lv_9_261_9 : ab_lv 9 261 9 = some 259 := by decide +kernel
theorem ab_lv_9_143_9 : ab_lv 9 143 9 = some 260 := by decide +kernel
theorem ab_lv_10_13_10 : ab_lv 10 13 10 = some 263 := by decide +kernel
theorem ab_lv_10_13_14 : ab_lv 10 13 14 = some 272 := by decide +kernel
theorem ab_lv_10_13_15 : ab_lv 10 13 15 = some 274 := by decide +kernel
theorem ab_lv_13_22_11 : ab_lv 13 22 11 = some 266 := by decide +kernel
theorem ab_lv_13_22_12 : ab_lv 13 22 12 = some 268 := by decide +kernel
theorem ab_lv_13_22_13 : ab_lv 13 22 13 = some 270 := by decide +kernel
theorem ab_lv_14_20_11 : ab_lv 14 20 11 = some 266 := by decide +kernel
theorem ab_lv_14_20_12 : ab_lv 14 20 12 = some 268 := by decide +kernel
theorem ab_lv_14_20_13 : ab_lv 14 20 13 = some 270 := by decide +kernel
theorem ab_lv_15_20_10 : ab_lv 15 20 10 = some 263 := by decide +kernel
theorem ab_lv_15_20_14 : ab_lv 15 20 14 = some 272 := by decide +kernel
theorem ab_lv_15_20_15 : ab_lv 15 20 15 = some 274 := by decide +kernel
theorem ab_lv_19_13_0 : ab_lv 19 13 0 = some 1 := by decide +kernel
theorem ab_lv_19_18_0 : ab_lv 19 18 0 = some 3 := by decide +kernel
theorem ab_lv_19_23_0 : ab_lv 19 23 0 = some 5 := by decide +kernel
theorem ab_lv_19_27_0 : ab_lv 19 27 0 = some 6 := by decide +kernel
theorem ab_lv_19_31_0 : ab_lv 19 31 0 = some 7 := by decide +kernel
theorem ab_lv_19_36_0 : ab_lv 19 36 0 = some 10 := by decide +kernel
theorem ab_lv_19_40_0 : ab_lv 19 40 0 = some 13 := by decide +kernel
theorem ab_lv_19_44_0 : ab_lv 19 44 0 = some 15 := by decide +kernel
theorem ab_lv_19_48_0 : ab_lv 19 48 0 = some 16 := by decide +kernel
theorem ab_lv_19_52_0 : ab_lv 19 52 0 = some 17 := by decide +kernel
theorem ab_lv_19_56_0 : ab_lv 19 56 0 = some 18 := by decide +kernel
theorem ab_lv_19_60_0 : ab_lv 19 60 0 = some 19 := by decide +kernel
theorem ab_lv_19_64_0 : ab_lv 19 64 0 = some 23 := by decide +kernel
theorem ab_lv_19_68_0 : ab_lv 19 68 0 = some 24 := by decide +kernel
theorem ab_lv_19_72_0 : ab_lv 19 72 0 = some 27 := by decide +kernel
theorem ab_lv_19_76_0 : ab_lv 19 76 0 = some 37 := by decide +kernel
theorem ab_lv_19_81_0 : ab_lv 19 81 0 = some 40 := by decide +kernel
theorem ab_lv_19_86_0 : ab_lv 19 86 0 = some 42 := by decide +kernel
theorem ab_lv_19_90_0 : ab_lv 19 90 0 = some 44 := by decide +kernel
theorem ab_lv_19_94_0 : ab_lv 19 94 0 = some 47 := by decide +kernel
theorem ab_lv_19_98_0 : ab_lv 19 98 0 = some 48 := by decide +kernel
theorem ab_lv_19_103_0 : ab_lv 19 103 0 = some 51 := by decide +kernel
theorem ab_lv_19_107_0 : ab_lv 19 107 0 = some 52 := by decide +kernel
theorem ab_lv_19_111_0 : ab_lv 19 111 0 = some 53 := by decide +kernel
theorem ab_lv_19_115_0 : ab_lv 19 115 0 = some 55 := by decide +kernel
theorem ab_lv_19_123_0 : ab_lv 19 123 0 = some 59 := by decide +kernel
theorem ab_lv_19_119_0 : ab_lv 19 119 0 = some 60 := by decide +kernel
theorem ab_lv_19_127_0 : ab_lv 19 127 0 = some 61 := by decide +kernel
theorem ab_lv_19_131_0 : ab_lv 19 131 0 = some 62 := by decide +kernel
theorem ab_lv_19_135_0 : ab_lv 19 135 0 = some 67 := by decide +kernel
theorem ab_lv_19_139_0 : ab_lv 19 139 0 = some 68 := by decide +kernel
theorem ab_lv_19_143_0 : ab_lv 19 143 0 = some 69 := by decide +kernel
theorem ab_lv_19_148_0 : ab_lv 19 148 0 = some 74 := by decide +kernel
theorem ab_lv_19_152_0 : ab_lv 19 152 0 = some 75 := by decide +kernel
theorem ab_lv_19_158_0 : ab_lv 19 158 0 = some 284 := by decide +kernel
theorem ab_lv_19_163_0 : ab_lv 19 163 0 = some 76 := by decide +kernel
theorem ab_lv_19_167_0 : ab_lv 19 167 0 = some 77 := by decide +kernel
theorem ab_lv_19_171_0 : ab_lv 19 171 0 = some 78 := by decide +kernel
theorem ab_lv_19_175_0 : ab_lv 19 175 0 = some 79 := by decide +kernel
theorem ab_lv_19_17_8 : ab_lv 19 17 8 = some 116 := by decide +kernel
theorem ab_lv_19_22_8 : ab_lv 19 22 8 = some 117 := by decide +kernel
theorem ab_lv_19_26_8 : ab_lv 19 26 8 = some 146 := by decide +kernel
theorem ab_lv_19_30_8 : ab_lv 19 30 8 = some 147 := by decide +kernel
theorem ab_lv_19_35_8 : ab_lv 19 35 8 = some 149 := by decide +kernel
theorem ab_lv_19_39_8 : ab_lv 19 39 8 = some 151 := by decide +kernel
theorem ab_lv_19_43_8 : ab_lv 19 43 8 = some 158 := by decide +kernel
theorem ab_lv_19_47_8 : ab_lv 19 47 8 = some 161 := by decide +kernel
theorem ab_lv_19_51_8 : ab_lv 19 51 8 = some 162 := by decide +kernel
theorem ab_lv_19_55_8 : ab_lv 19 55 8 = some 163 := by decide +kernel
theorem ab_lv_19_59_8 : ab_lv 19 59 8 = some 165 := by decide +kernel
theorem ab_lv_19_63_8 : ab_lv 19 63 8 = some 166 := by decide +kernel
theorem ab_lv_19_67_8 : ab_lv 19 67 8 = some 172 := by decide +kernel
theorem ab_lv_19_71_8 : ab_lv 19 71 8 = some 173 := by decide +kernel
theorem ab_lv_19_75_8 : ab_lv 19 75 8 = some 176 := by decide +kernel
theorem ab_lv_19_80_8 : ab_lv 19 80 8 = some 182 := by decide +kernel
theorem ab_lv_19_85_8 : ab_lv 19 85 8 = some 184 := by decide +kernel
theorem ab_lv_19_89_8 : ab_lv 19 89 8 = some 185 := by decide +kernel
theorem ab_lv_19_93_8 : ab_lv 19 93 8 = some 187 := by decide +kernel
theorem ab_lv_19_97_8 : ab_lv 19 97 8 = some 189 := by decide +kernel
theorem ab_lv_19_102_8 : ab_lv 19 102 8 = some 190 := by decide +kernel
theorem ab_lv_19_106_8 : ab_lv 19 106 8 = some 194 := by decide +kernel
theorem ab_lv_19_110_8 : ab_lv 19 110 8 = some 195 := by decide +kernel
theorem ab_lv_19_114_8 : ab_lv 19 114 8 = some 196 := by decide +kernel
theorem ab_lv_19_118_8 : ab_lv 19 118 8 = some 198 := by decide +kernel
theorem ab_lv_19_126_8 : ab_lv 19 126 8 = some 206 := by decide +kernel
theorem ab_lv_19_122_8 : ab_lv 19 122 8 = some 207 := by decide +kernel
theorem ab_lv_19_130_8 : ab_lv 19 130 8 = some 208 := by decide +kernel
theorem ab_lv_19_134_8 : ab_lv 19 134 8 = some 209 := by decide +kernel
theorem ab_lv_19_138_8 : ab_lv 19 138 8 = some 213 := by decide +kernel
theorem ab_lv_19_142_8 : ab_lv 19 142 8 = some 215 := by decide +kernel
theorem ab_lv_19_147_8 : ab_lv 19 147 8 = some 216 := by decide +kernel
theorem ab_lv_19_151_8 : ab_lv 19 151 8 = some 221 := by decide +kernel
theorem ab_lv_19_155_8 : ab_lv 19 155 8 = some 222 := by decide +kernel
theorem ab_lv_19_162_8 : ab_lv 19 162 8 = some 223 := by decide +kernel
theorem ab_lv_19_166_8 : ab_lv 19 166 8 = some 225 := by decide +kernel
theorem ab_lv_19_170_8 : ab_lv 19 170 8 = some 226 := by decide +kernel
theorem ab_lv_19_174_8 : ab_lv 19 174 8 = some 227 := by decide +kernel
theorem ab_lv_19_178_8 : ab_lv 19 178 8 = some 228 := by decide +kernel
theorem ab_lv_6_75_0 : ab_lv 6 75 0 = some 11 := by decide +kernel
theorem ab_lv_6_79_0 : ab_lv 6 79 0 = some 12 := by decide +kernel
def ab_lsT : List (Nat × Nat × Nat) := [(0, 132, 4), (0, 188, 9), (0, 206, 279), (0, 422, 21), (0, 343, 283), (0, 363, 282), (0, 401, 71), (0, 397, 281), (0, 411, 73), (6, 83, 282), (6, 92, 278), (8, 91, 115), (8, 157, 118), (8, 126, 121), (8, 133, 123), (8, 260, 145), (8, 231, 157), (8, 414, 214), (8, 428, 219), (8, 421, 220), (8, 434, 224), (13, 30, 280), (13, 36, 281), (1, 54, 4), (2, 28, 4), (6, 65, 4), (9, 41, 4)]
def ab_ls (own idx : Nat) : Option Nat := (ab_lsT.find? (fun e => e.1 == own && e.2.1 == idx)).map (fun e => e.2.2)
theorem ab_ls_0_132 : ab_ls 0 132 = some 4 := by decide +kernel
theorem ab_ls_0_188 : ab_ls 0 188 = some 9 := by decide +kernel
theorem ab_ls_0_206 : ab_ls 0 206 = some 279 := by decide +kernel
theorem ab_ls_0_422 : ab_ls 0 422 = some 21 := by decide +kernel
theorem ab_ls_0_343 : ab_ls 0 343 = some 283 := by decide +kernel
theorem ab_ls_0_363 : ab_ls 0 363 = some 282 := by decide +kernel
theorem ab_ls_0_401 : ab_ls 0 401 = some 71 := by decide +kernel
theorem ab_ls_0_397 : ab_ls 0 397 = some 281 := by decide +kernel
theorem ab_ls_0_411 : ab_ls 0 411 = some 73 := by decide +kernel
theorem ab_ls_6_83 : ab_ls 6 83 = some 282 := by decide +kernel
theorem ab_ls_6_92 : ab_ls 6 92 = some 278 := by decide +kernel
theorem ab_ls_8_91 : ab_ls 8 91 = some 115 := by decide +kernel
theorem ab_ls_8_157 : ab_ls 8 157 = some 118 := by decide +kernel
theorem ab_ls_8_126 : ab_ls 8 126 = some 121 := by decide +kernel
theorem ab_ls_8_133 : ab_ls 8 133 = some 123 := by decide +kernel
theorem ab_ls_8_260 : ab_ls 8 260 = some 145 := by decide +kernel
theorem ab_ls_8_231 : ab_ls 8 231 = some 157 := by decide +kernel
theorem ab_ls_8_414 : ab_ls 8 414 = some 214 := by decide +kernel
theorem ab_ls_8_428 : ab_ls 8 428 = some 219 := by decide +kernel
theorem ab_ls_8_421 : ab_ls 8 421 = some 220 := by decide +kernel
theorem ab_ls_8_434 : ab_ls 8 434 = some 224 := by decide +kernel
theorem ab_ls_13_30 : ab_ls 13 30 = some 280 := by decide +kernel
theorem ab_ls_13_36 : ab_ls 13 36 = some 281 := by decide +kernel
theorem ab_ls_1_54 : ab_ls 1 54 = some 4 := by decide +kernel
theorem ab_ls_2_28 : ab_ls 2 28 = some 4 := by decide +kernel
theorem ab_ls_6_65 : ab_ls 6 65 = some 4 := by decide +kernel
theorem ab_ls_9_41 : ab_ls 9 41 = some 4 := by decide +kernel
def ab_liT : List (Nat × Nat × Nat) := [(0, 43, 89), (0, 56, 98), (0, 138, 231), (9, 229, 262), (9, 266, 265), (9, 270, 267), (9, 249, 269), (9, 241, 271), (9, 214, 273), (19, 9, 0), (19, 12, 114), (0, 40, 81), (0, 48, 92), (0, 53, 95), (0, 59, 101), (0, 110, 110), (2, 9, 87), (3, 9, 87), (4, 9, 87), (5, 9, 87), (9, 17, 81), (10, 1, 261), (11, 1, 264), (12, 1, 264), (13, 3, 264), (14, 1, 261), (15, 1, 261)]
def ab_li (own idx : Nat) : Option Nat := (ab_liT.find? (fun e => e.1 == own && e.2.1 == idx)).map (fun e => e.2.2)
theorem ab_li_0_43 : ab_li 0 43 = some 89 := by decide +kernel
theorem ab_li_0_56 : ab_li 0 56 = some 98 := by decide +kernel
theorem ab_li_0_138 : ab_li 0 138 = some 231 := by decide +kernel
theorem ab_li_9_229 : ab_li 9 229 = some 262 := by decide +kernel
theorem ab_li_9_266 : ab_li 9 266 = some 265 := by decide +kernel
theorem ab_li_9_270 : ab_li 9 270 = some 267 := by decide +kernel
theorem ab_li_9_249 : ab_li 9 249 = some 269 := by decide +kernel
theorem ab_li_9_241 : ab_li 9 241 = some 271 := by decide +kernel
theorem ab_li_9_214 : ab_li 9 214 = some 273 := by decide +kernel
theorem ab_li_19_9 : ab_li 19 9 = some 0 := by decide +kernel
theorem ab_li_19_12 : ab_li 19 12 = some 114 := by decide +kernel
theorem ab_li_0_40 : ab_li 0 40 = some 81 := by decide +kernel
theorem ab_li_0_48 : ab_li 0 48 = some 92 := by decide +kernel
theorem ab_li_0_53 : ab_li 0 53 = some 95 := by decide +kernel
theorem ab_li_0_59 : ab_li 0 59 = some 101 := by decide +kernel
theorem ab_li_0_110 : ab_li 0 110 = some 110 := by decide +kernel
theorem ab_li_2_9 : ab_li 2 9 = some 87 := by decide +kernel
theorem ab_li_3_9 : ab_li 3 9 = some 87 := by decide +kernel
theorem ab_li_4_9 : ab_li 4 9 = some 87 := by decide +kernel
theorem ab_li_5_9 : ab_li 5 9 = some 87 := by decide +kernel
theorem ab_li_9_17 : ab_li 9 17 = some 81 := by decide +kernel
theorem ab_li_10_1 : ab_li 10 1 = some 261 := by decide +kernel
theorem ab_li_11_1 : ab_li 11 1 = some 264 := by decide +kernel
theorem ab_li_12_1 : ab_li 12 1 = some 264 := by decide +kernel
theorem ab_li_13_3 : ab_li 13 3 = some 264 := by decide +kernel
theorem ab_li_14_1 : ab_li 14 1 = some 261 := by decide +kernel
theorem ab_li_15_1 : ab_li 15 1 = some 261 := by decide +kernel
def ab_loT : List (Nat × Nat × Nat) := [(0, 34, 0), (1, 3, 0), (16, 9, 0), (6, 9, 0), (7, 1, 0), (8, 7, 0), (9, 9, 0), (17, 1, 0), (18, 1, 0)]
def ab_lo (own idx : Nat) : Option Nat := (ab_loT.find? (fun e => e.1 == own && e.2.1 == idx)).map (fun e => e.2.2)
theorem ab_lo_0_34 : ab_lo 0 34 = some 0 := by decide +kernel
theorem ab_lo_1_3 : ab_lo 1 3 = some 0 := by decide +kernel
theorem ab_lo_16_9 : ab_lo 16 9 = some 0 := by decide +kernel
theorem ab_lo_6_9 : ab_lo 6 9 = some 0 := by decide +kernel
theorem ab_lo_7_1 : ab_lo 7 1 = some 0 := by decide +kernel
theorem ab_lo_8_7 : ab_lo 8 7 = some 0 := by decide +kernel
theorem ab_lo_9_9 : ab_lo 9 9 = some 0 := by decide +kernel
theorem ab_lo_17_1 : ab_lo 17 1 = some 0 := by decide +kernel
theorem ab_lo_18_1 : ab_lo 18 1 = some 0 := by decide +kernel
def ab_lcT : List (Nat × Nat × Nat) := [(0, 274, 0), (6, 25, 0)]
def ab_lc (own idx : Nat) : Option Nat := (ab_lcT.find? (fun e => e.1 == own && e.2.1 == idx)).map (fun e => e.2.2)
theorem ab_lc_0_274 : ab_lc 0 274 = some 0 := by decide +kernel
theorem ab_lc_6_25 : ab_lc 6 25 = some 0 := by decide +kernel
def ab_ltT : List (Nat × Nat × Nat) := [(8, 103, 276), (8, 109, 277), (9, 70, 275), (9, 78, 276), (9, 82, 277)]
def ab_lt (own idx : Nat) : Option Nat := (ab_ltT.find? (fun e => e.1 == own && e.2.1 == idx)).map (fun e => e.2.2)
theorem ab_lt_8_103 : ab_lt 8 103 = some 276 := by decide +kernel
theorem ab_lt_8_109 : ab_lt 8 109 = some 277 := by decide +kernel
theorem ab_lt_9_70 : ab_lt 9 70 = some 275 := by decide +kernel
theorem ab_lt_9_78 : ab_lt 9 78 = some 276 := by decide +kernel
theorem ab_lt_9_82 : ab_lt 9 82 = some 277 := by decide +kernel
def ab_lnT : List (Nat × Nat × Nat) := [(0, 7, 2), (0, 13, 0), (0, 21, 4), (0, 27, 5), (0, 31, 2), (0, 40, 0), (0, 43, 2), (0, 48, 1), (0, 53, 1), (0, 56, 2), (0, 59, 1), (0, 110, 0), (0, 122, 0), (0, 128, 1), (0, 132, 3), (0, 138, 2), (0, 139, 0), (0, 165, 1), (0, 169, 1), (0, 188, 2), (0, 195, 2), (0, 202, 1), (0, 206, 2), (0, 211, 0), (0, 214, 3), (0, 235, 0), (0, 239, 0), (0, 241, 1), (0, 245, 1), (0, 249, 1), (0, 254, 1), (0, 257, 1), (0, 267, 1), (0, 272, 0), (0, 280, 1), (0, 283, 1), (0, 286, 5), (0, 290, 3), (0, 293, 1), (0, 297, 0), (0, 300, 0), (0, 303, 2), (0, 306, 0), (0, 309, 4), (0, 313, 2), (0, 316, 2), (0, 325, 2), (0, 331, 2), (0, 337, 2), (0, 340, 2), (0, 343, 1), (0, 348, 2), (0, 351, 0), (0, 354, 0), (0, 357, 0), (0, 360, 1), (0, 363, 1), (0, 369, 0), (0, 380, 0), (0, 383, 0), (0, 386, 2), (0, 390, 2), (0, 393, 3), (0, 397, 2), (0, 401, 1), (0, 407, 5), (0, 411, 2), (0, 416, 3), (0, 422, 1), (0, 429, 2), (0, 431, 2), (0, 442, 0), (1, 41, 4), (1, 45, 1), (1, 54, 3), (2, 9, 1), (2, 28, 3), (3, 9, 1), (4, 9, 1), (5, 9, 1), (6, 50, 0), (6, 65, 3), (6, 71, 1), (6, 75, 3), (6, 79, 6), (6, 83, 1), (6, 88, 2), (6, 92, 2), (6, 117, 0), (8, 91, 1), (8, 103, 0), (8, 109, 1), (8, 119, 1), (8, 126, 1), (8, 130, 0), (8, 133, 1), (8, 147, 1), (8, 150, 0), (8, 153, 1), (8, 157, 3), (8, 164, 1), (8, 167, 1), (8, 170, 1), (8, 173, 1), (8, 176, 1), (8, 179, 1), (8, 182, 1), (8, 185, 1), (8, 188, 1), (8, 191, 1), (8, 194, 2), (8, 198, 0), (8, 201, 1), (8, 204, 0), (8, 207, 0), (8, 210, 1), (8, 213, 0), (8, 216, 0), (8, 222, 0), (8, 231, 3), (8, 235, 1), (8, 238, 3), (8, 241, 6), (8, 245, 1), (8, 251, 1), (8, 254, 5), (8, 260, 2), (8, 264, 2), (8, 268, 0), (8, 271, 0), (8, 280, 0), (8, 300, 1), (8, 304, 1), (8, 309, 1), (8, 312, 1), (8, 315, 0), (8, 322, 1), (8, 327, 0), (8, 330, 3), (8, 333, 1), (8, 336, 3), (8, 339, 1), (8, 342, 2), (8, 345, 2), (8, 356, 2), (8, 359, 2), (8, 362, 1), (8, 365, 2), (8, 369, 0), (8, 372, 1), (8, 375, 0), (8, 378, 1), (8, 381, 0), (8, 384, 0), (8, 390, 0), (8, 399, 0), (8, 402, 0), (8, 405, 1), (8, 408, 2), (8, 411, 3), (8, 414, 1), (8, 417, 3), (8, 421, 2), (8, 425, 3), (8, 428, 1), (8, 434, 2), (8, 438, 0), (8, 441, 0), (9, 17, 0), (9, 33, 1), (9, 41, 3), (9, 58, 1), (9, 62, 1), (9, 70, 1), (9, 78, 0), (9, 82, 1), (9, 86, 1), (9, 90, 0), (9, 93, 1), (9, 97, 1), (9, 102, 1), (9, 106, 2), (9, 117, 0), (9, 120, 0), (9, 123, 1), (9, 131, 0), (9, 135, 0), (9, 139, 0), (9, 143, 0), (9, 169, 0), (9, 178, 1), (9, 187, 1), (9, 195, 0), (9, 207, 0), (9, 214, 3), (9, 217, 0), (9, 224, 0), (9, 229, 1), (9, 232, 1), (9, 235, 0), (9, 241, 3), (9, 244, 0), (9, 249, 3), (9, 250, 0), (9, 261, 0), (9, 266, 1), (9, 270, 1), (10, 1, 0), (10, 13, 1), (11, 1, 0), (12, 1, 0), (13, 3, 0), (13, 22, 1), (13, 30, 2), (13, 36, 2), (14, 1, 0), (14, 20, 1), (15, 1, 0), (15, 20, 1), (19, 9, 0), (19, 12, 0), (19, 13, 5), (19, 17, 5), (19, 18, 1), (19, 22, 1), (19, 23, 1), (19, 26, 1), (19, 27, 1), (19, 30, 1), (19, 31, 2), (19, 35, 2), (19, 36, 2), (19, 39, 2), (19, 40, 2), (19, 43, 2), (19, 44, 2), (19, 47, 2), (19, 48, 1), (19, 51, 1), (19, 52, 1), (19, 55, 1), (19, 56, 1), (19, 59, 1), (19, 60, 2), (19, 63, 2), (19, 64, 1), (19, 67, 1), (19, 68, 2), (19, 71, 2), (19, 72, 2), (19, 75, 2), (19, 76, 3), (19, 80, 3), (19, 81, 3), (19, 85, 3), (19, 86, 2), (19, 89, 2), (19, 90, 2), (19, 93, 2), (19, 94, 2), (19, 97, 2), (19, 98, 0), (19, 102, 0), (19, 103, 1), (19, 106, 1), (19, 107, 1), (19, 110, 1), (19, 111, 0), (19, 114, 0), (19, 115, 1), (19, 118, 1), (19, 119, 0), (19, 122, 0), (19, 123, 0), (19, 126, 0), (19, 127, 0), (19, 130, 0), (19, 131, 3), (19, 134, 3), (19, 135, 2), (19, 138, 2), (19, 139, 2), (19, 142, 2), (19, 143, 4), (19, 147, 4), (19, 148, 3), (19, 151, 3), (19, 152, 3), (19, 155, 3), (19, 158, 3), (19, 162, 3), (19, 163, 3), (19, 166, 3), (19, 167, 1), (19, 170, 1), (19, 171, 1), (19, 174, 1), (19, 175, 1), (19, 178, 1)]
def ab_ln (own idx : Nat) : Option Nat := (ab_lnT.find? (fun e => e.1 == own && e.2.1 == idx)).map (fun e => e.2.2)
theorem ab_ln_0_7 : ab_ln 0 7 = some 2 := by decide +kernel
theorem ab_ln_0_13 : ab_ln 0 13 = some 0 := by decide +kernel
theorem ab_ln_0_21 : ab_ln 0 21 = some 4 := by decide +kernel
theorem ab_ln_0_27 : ab_ln 0 27 = some 5 := by decide +kernel
theorem ab_ln_0_31 : ab_ln 0 31 = some 2 := by decide +kernel
theorem ab_ln_0_40 : ab_ln 0 40 = some 0 := by decide +kernel
theorem ab_ln_0_43 : ab_ln 0 43 = some 2 := by decide +kernel
theorem ab_ln_0_48 : ab_ln 0 48 = some 1 := by decide +kernel
theorem ab_ln_0_53 : ab_ln 0 53 = some 1 := by decide +kernel
theorem ab_ln_0_56 : ab_ln 0 56 = some 2 := by decide +kernel
theorem ab_ln_0_59 : ab_ln 0 59 = some 1 := by decide +kernel
theorem ab_ln_0_110 : ab_ln 0 110 = some 0 := by decide +kernel
theorem ab_ln_0_122 : ab_ln 0 122 = some 0 := by decide +kernel
theorem ab_ln_0_128 : ab_ln 0 128 = some 1 := by decide +kernel
theorem ab_ln_0_132 : ab_ln 0 132 = some 3 := by decide +kernel
theorem ab_ln_0_138 : ab_ln 0 138 = some 2 := by decide +kernel
theorem ab_ln_0_139 : ab_ln 0 139 = some 0 := by decide +kernel
theorem ab_ln_0_165 : ab_ln 0 165 = some 1 := by decide +kernel
theorem ab_ln_0_169 : ab_ln 0 169 = some 1 := by decide +kernel
theorem ab_ln_0_188 : ab_ln 0 188 = some 2 := by decide +kernel
theorem ab_ln_0_195 : ab_ln 0 195 = some 2 := by decide +kernel
theorem ab_ln_0_202 : ab_ln 0 202 = some 1 := by decide +kernel
theorem ab_ln_0_206 : ab_ln 0 206 = some 2 := by decide +kernel
theorem ab_ln_0_211 : ab_ln 0 211 = some 0 := by decide +kernel
theorem ab_ln_0_214 : ab_ln 0 214 = some 3 := by decide +kernel
theorem ab_ln_0_235 : ab_ln 0 235 = some 0 := by decide +kernel
theorem ab_ln_0_239 : ab_ln 0 239 = some 0 := by decide +kernel
theorem ab_ln_0_241 : ab_ln 0 241 = some 1 := by decide +kernel
theorem ab_ln_0_245 : ab_ln 0 245 = some 1 := by decide +kernel
theorem ab_ln_0_249 : ab_ln 0 249 = some 1 := by decide +kernel
theorem ab_ln_0_254 : ab_ln 0 254 = some 1 := by decide +kernel
theorem ab_ln_0_257 : ab_ln 0 257 = some 1 := by decide +kernel
theorem ab_ln_0_267 : ab_ln 0 267 = some 1 := by decide +kernel
theorem ab_ln_0_272 : ab_ln 0 272 = some 0 := by decide +kernel
theorem ab_ln_0_280 : ab_ln 0 280 = some 1 := by decide +kernel
theorem ab_ln_0_283 : ab_ln 0 283 = some 1 := by decide +kernel
theorem ab_ln_0_286 : ab_ln 0 286 = some 5 := by decide +kernel
theorem ab_ln_0_290 : ab_ln 0 290 = some 3 := by decide +kernel
theorem ab_ln_0_293 : ab_ln 0 293 = some 1 := by decide +kernel
theorem ab_ln_0_297 : ab_ln 0 297 = some 0 := by decide +kernel
theorem ab_ln_0_300 : ab_ln 0 300 = some 0 := by decide +kernel
theorem ab_ln_0_303 : ab_ln 0 303 = some 2 := by decide +kernel
theorem ab_ln_0_306 : ab_ln 0 306 = some 0 := by decide +kernel
theorem ab_ln_0_309 : ab_ln 0 309 = some 4 := by decide +kernel
theorem ab_ln_0_313 : ab_ln 0 313 = some 2 := by decide +kernel
theorem ab_ln_0_316 : ab_ln 0 316 = some 2 := by decide +kernel
theorem ab_ln_0_325 : ab_ln 0 325 = some 2 := by decide +kernel
theorem ab_ln_0_331 : ab_ln 0 331 = some 2 := by decide +kernel
theorem ab_ln_0_337 : ab_ln 0 337 = some 2 := by decide +kernel
theorem ab_ln_0_340 : ab_ln 0 340 = some 2 := by decide +kernel
theorem ab_ln_0_343 : ab_ln 0 343 = some 1 := by decide +kernel
theorem ab_ln_0_348 : ab_ln 0 348 = some 2 := by decide +kernel
theorem ab_ln_0_351 : ab_ln 0 351 = some 0 := by decide +kernel
theorem ab_ln_0_354 : ab_ln 0 354 = some 0 := by decide +kernel
theorem ab_ln_0_357 : ab_ln 0 357 = some 0 := by decide +kernel
theorem ab_ln_0_360 : ab_ln 0 360 = some 1 := by decide +kernel
theorem ab_ln_0_363 : ab_ln 0 363 = some 1 := by decide +kernel
theorem ab_ln_0_369 : ab_ln 0 369 = some 0 := by decide +kernel
theorem ab_ln_0_380 : ab_ln 0 380 = some 0 := by decide +kernel
theorem ab_ln_0_383 : ab_ln 0 383 = some 0 := by decide +kernel
theorem ab_ln_0_386 : ab_ln 0 386 = some 2 := by decide +kernel
theorem ab_ln_0_390 : ab_ln 0 390 = some 2 := by decide +kernel
theorem ab_ln_0_393 : ab_ln 0 393 = some 3 := by decide +kernel
theorem ab_ln_0_397 : ab_ln 0 397 = some 2 := by decide +kernel
theorem ab_ln_0_401 : ab_ln 0 401 = some 1 := by decide +kernel
theorem ab_ln_0_407 : ab_ln 0 407 = some 5 := by decide +kernel
theorem ab_ln_0_411 : ab_ln 0 411 = some 2 := by decide +kernel
theorem ab_ln_0_416 : ab_ln 0 416 = some 3 := by decide +kernel
theorem ab_ln_0_422 : ab_ln 0 422 = some 1 := by decide +kernel
theorem ab_ln_0_429 : ab_ln 0 429 = some 2 := by decide +kernel
theorem ab_ln_0_431 : ab_ln 0 431 = some 2 := by decide +kernel
theorem ab_ln_0_442 : ab_ln 0 442 = some 0 := by decide +kernel
theorem ab_ln_1_41 : ab_ln 1 41 = some 4 := by decide +kernel
theorem ab_ln_1_45 : ab_ln 1 45 = some 1 := by decide +kernel
theorem ab_ln_1_54 : ab_ln 1 54 = some 3 := by decide +kernel
theorem ab_ln_2_9 : ab_ln 2 9 = some 1 := by decide +kernel
theorem ab_ln_2_28 : ab_ln 2 28 = some 3 := by decide +kernel
theorem ab_ln_3_9 : ab_ln 3 9 = some 1 := by decide +kernel
theorem ab_ln_4_9 : ab_ln 4 9 = some 1 := by decide +kernel
theorem ab_ln_5_9 : ab_ln 5 9 = some 1 := by decide +kernel
theorem ab_ln_6_50 : ab_ln 6 50 = some 0 := by decide +kernel
theorem ab_ln_6_65 : ab_ln 6 65 = some 3 := by decide +kernel
theorem ab_ln_6_71 : ab_ln 6 71 = some 1 := by decide +kernel
theorem ab_ln_6_75 : ab_ln 6 75 = some 3 := by decide +kernel
theorem ab_ln_6_79 : ab_ln 6 79 = some 6 := by decide +kernel
theorem ab_ln_6_83 : ab_ln 6 83 = some 1 := by decide +kernel
theorem ab_ln_6_88 : ab_ln 6 88 = some 2 := by decide +kernel
theorem ab_ln_6_92 : ab_ln 6 92 = some 2 := by decide +kernel
theorem ab_ln_6_117 : ab_ln 6 117 = some 0 := by decide +kernel
theorem ab_ln_8_91 : ab_ln 8 91 = some 1 := by decide +kernel
theorem ab_ln_8_103 : ab_ln 8 103 = some 0 := by decide +kernel
theorem ab_ln_8_109 : ab_ln 8 109 = some 1 := by decide +kernel
theorem ab_ln_8_119 : ab_ln 8 119 = some 1 := by decide +kernel
theorem ab_ln_8_126 : ab_ln 8 126 = some 1 := by decide +kernel
theorem ab_ln_8_130 : ab_ln 8 130 = some 0 := by decide +kernel
theorem ab_ln_8_133 : ab_ln 8 133 = some 1 := by decide +kernel
theorem ab_ln_8_147 : ab_ln 8 147 = some 1 := by decide +kernel
theorem ab_ln_8_150 : ab_ln 8 150 = some 0 := by decide +kernel
theorem ab_ln_8_153 : ab_ln 8 153 = some 1 := by decide +kernel
theorem ab_ln_8_157 : ab_ln 8 157 = some 3 := by decide +kernel
theorem ab_ln_8_164 : ab_ln 8 164 = some 1 := by decide +kernel
theorem ab_ln_8_167 : ab_ln 8 167 = some 1 := by decide +kernel
theorem ab_ln_8_170 : ab_ln 8 170 = some 1 := by decide +kernel
theorem ab_ln_8_173 : ab_ln 8 173 = some 1 := by decide +kernel
theorem ab_ln_8_176 : ab_ln 8 176 = some 1 := by decide +kernel
theorem ab_ln_8_179 : ab_ln 8 179 = some 1 := by decide +kernel
theorem ab_ln_8_182 : ab_ln 8 182 = some 1 := by decide +kernel
theorem ab_ln_8_185 : ab_ln 8 185 = some 1 := by decide +kernel
theorem ab_ln_8_188 : ab_ln 8 188 = some 1 := by decide +kernel
theorem ab_ln_8_191 : ab_ln 8 191 = some 1 := by decide +kernel
theorem ab_ln_8_194 : ab_ln 8 194 = some 2 := by decide +kernel
theorem ab_ln_8_198 : ab_ln 8 198 = some 0 := by decide +kernel
theorem ab_ln_8_201 : ab_ln 8 201 = some 1 := by decide +kernel
theorem ab_ln_8_204 : ab_ln 8 204 = some 0 := by decide +kernel
theorem ab_ln_8_207 : ab_ln 8 207 = some 0 := by decide +kernel
theorem ab_ln_8_210 : ab_ln 8 210 = some 1 := by decide +kernel
theorem ab_ln_8_213 : ab_ln 8 213 = some 0 := by decide +kernel
theorem ab_ln_8_216 : ab_ln 8 216 = some 0 := by decide +kernel
theorem ab_ln_8_222 : ab_ln 8 222 = some 0 := by decide +kernel
theorem ab_ln_8_231 : ab_ln 8 231 = some 3 := by decide +kernel
theorem ab_ln_8_235 : ab_ln 8 235 = some 1 := by decide +kernel
theorem ab_ln_8_238 : ab_ln 8 238 = some 3 := by decide +kernel
theorem ab_ln_8_241 : ab_ln 8 241 = some 6 := by decide +kernel
theorem ab_ln_8_245 : ab_ln 8 245 = some 1 := by decide +kernel
theorem ab_ln_8_251 : ab_ln 8 251 = some 1 := by decide +kernel
theorem ab_ln_8_254 : ab_ln 8 254 = some 5 := by decide +kernel
theorem ab_ln_8_260 : ab_ln 8 260 = some 2 := by decide +kernel
theorem ab_ln_8_264 : ab_ln 8 264 = some 2 := by decide +kernel
theorem ab_ln_8_268 : ab_ln 8 268 = some 0 := by decide +kernel
theorem ab_ln_8_271 : ab_ln 8 271 = some 0 := by decide +kernel
theorem ab_ln_8_280 : ab_ln 8 280 = some 0 := by decide +kernel
theorem ab_ln_8_300 : ab_ln 8 300 = some 1 := by decide +kernel
theorem ab_ln_8_304 : ab_ln 8 304 = some 1 := by decide +kernel
theorem ab_ln_8_309 : ab_ln 8 309 = some 1 := by decide +kernel
theorem ab_ln_8_312 : ab_ln 8 312 = some 1 := by decide +kernel
theorem ab_ln_8_315 : ab_ln 8 315 = some 0 := by decide +kernel
theorem ab_ln_8_322 : ab_ln 8 322 = some 1 := by decide +kernel
theorem ab_ln_8_327 : ab_ln 8 327 = some 0 := by decide +kernel
theorem ab_ln_8_330 : ab_ln 8 330 = some 3 := by decide +kernel
theorem ab_ln_8_333 : ab_ln 8 333 = some 1 := by decide +kernel
theorem ab_ln_8_336 : ab_ln 8 336 = some 3 := by decide +kernel
theorem ab_ln_8_339 : ab_ln 8 339 = some 1 := by decide +kernel
theorem ab_ln_8_342 : ab_ln 8 342 = some 2 := by decide +kernel
theorem ab_ln_8_345 : ab_ln 8 345 = some 2 := by decide +kernel
theorem ab_ln_8_356 : ab_ln 8 356 = some 2 := by decide +kernel
theorem ab_ln_8_359 : ab_ln 8 359 = some 2 := by decide +kernel
theorem ab_ln_8_362 : ab_ln 8 362 = some 1 := by decide +kernel
theorem ab_ln_8_365 : ab_ln 8 365 = some 2 := by decide +kernel
theorem ab_ln_8_369 : ab_ln 8 369 = some 0 := by decide +kernel
theorem ab_ln_8_372 : ab_ln 8 372 = some 1 := by decide +kernel
theorem ab_ln_8_375 : ab_ln 8 375 = some 0 := by decide +kernel
theorem ab_ln_8_378 : ab_ln 8 378 = some 1 := by decide +kernel
theorem ab_ln_8_381 : ab_ln 8 381 = some 0 := by decide +kernel
theorem ab_ln_8_384 : ab_ln 8 384 = some 0 := by decide +kernel
theorem ab_ln_8_390 : ab_ln 8 390 = some 0 := by decide +kernel
theorem ab_ln_8_399 : ab_ln 8 399 = some 0 := by decide +kernel
theorem ab_ln_8_402 : ab_ln 8 402 = some 0 := by decide +kernel
theorem ab_ln_8_405 : ab_ln 8 405 = some 1 := by decide +kernel
theorem ab_ln_8_408 : ab_ln 8 408 = some 2 := by decide +kernel
theorem ab_ln_8_411 : ab_ln 8 411 = some 3 := by decide +kernel
theorem ab_ln_8_414 : ab_ln 8 414 = some 1 := by decide +kernel
theorem ab_ln_8_417 : ab_ln 8 417 = some 3 := by decide +kernel
theorem ab_ln_8_421 : ab_ln 8 421 = some 2 := by decide +kernel
theorem ab_ln_8_425 : ab_ln 8 425 = some 3 := by decide +kernel
theorem ab_ln_8_428 : ab_ln 8 428 = some 1 := by decide +kernel
theorem ab_ln_8_434 : ab_ln 8 434 = some 2 := by decide +kernel
theorem ab_ln_8_438 : ab_ln 8 438 = some 0 := by decide +kernel
theorem ab_ln_8_441 : ab_ln 8 441 = some 0 := by decide +kernel
theorem ab_ln_9_17 : ab_ln 9 17 = some 0 := by decide +kernel
theorem ab_ln_9_33 : ab_ln 9 33 = some 1 := by decide +kernel
theorem ab_ln_9_41 : ab_ln 9 41 = some 3 := by decide +kernel
theorem ab_ln_9_58 : ab_ln 9 58 = some 1 := by decide +kernel
theorem ab_ln_9_62 : ab_ln 9 62 = some 1 := by decide +kernel
theorem ab_ln_9_70 : ab_ln 9 70 = some 1 := by decide +kernel
theorem ab_ln_9_78 : ab_ln 9 78 = some 0 := by decide +kernel
theorem ab_ln_9_82 : ab_ln 9 82 = some 1 := by decide +kernel
theorem ab_ln_9_86 : ab_ln 9 86 = some 1 := by decide +kernel
theorem ab_ln_9_90 : ab_ln 9 90 = some 0 := by decide +kernel
theorem ab_ln_9_93 : ab_ln 9 93 = some 1 := by decide +kernel
theorem ab_ln_9_97 : ab_ln 9 97 = some 1 := by decide +kernel
theorem ab_ln_9_102 : ab_ln 9 102 = some 1 := by decide +kernel
theorem ab_ln_9_106 : ab_ln 9 106 = some 2 := by decide +kernel
theorem ab_ln_9_117 : ab_ln 9 117 = some 0 := by decide +kernel
theorem ab_ln_9_120 : ab_ln 9 120 = some 0 := by decide +kernel
theorem ab_ln_9_123 : ab_ln 9 123 = some 1 := by decide +kernel
theorem ab_ln_9_131 : ab_ln 9 131 = some 0 := by decide +kernel
theorem ab_ln_9_135 : ab_ln 9 135 = some 0 := by decide +kernel
theorem ab_ln_9_139 : ab_ln 9 139 = some 0 := by decide +kernel
theorem ab_ln_9_143 : ab_ln 9 143 = some 0 := by decide +kernel
theorem ab_ln_9_169 : ab_ln 9 169 = some 0 := by decide +kernel
theorem ab_ln_9_178 : ab_ln 9 178 = some 1 := by decide +kernel
theorem ab_ln_9_187 : ab_ln 9 187 = some 1 := by decide +kernel
theorem ab_ln_9_195 : ab_ln 9 195 = some 0 := by decide +kernel
theorem ab_ln_9_207 : ab_ln 9 207 = some 0 := by decide +kernel
theorem ab_ln_9_214 : ab_ln 9 214 = some 3 := by decide +kernel
theorem ab_ln_9_217 : ab_ln 9 217 = some 0 := by decide +kernel
theorem ab_ln_9_224 : ab_ln 9 224 = some 0 := by decide +kernel
theorem ab_ln_9_229 : ab_ln 9 229 = some 1 := by decide +kernel
theorem ab_ln_9_232 : ab_ln 9 232 = some 1 := by decide +kernel
theorem ab_ln_9_235 : ab_ln 9 235 = some 0 := by decide +kernel
theorem ab_ln_9_241 : ab_ln 9 241 = some 3 := by decide +kernel
theorem ab_ln_9_244 : ab_ln 9 244 = some 0 := by decide +kernel
theorem ab_ln_9_249 : ab_ln 9 249 = some 3 := by decide +kernel
theorem ab_ln_9_250 : ab_ln 9 250 = some 0 := by decide +kernel
theorem ab_ln_9_261 : ab_ln 9 261 = some 0 := by decide +kernel
theorem ab_ln_9_266 : ab_ln 9 266 = some 1 := by decide +kernel
theorem ab_ln_9_270 : ab_ln 9 270 = some 1 := by decide +kernel
theorem ab_ln_10_1 : ab_ln 10 1 = some 0 := by decide +kernel
theorem ab_ln_10_13 : ab_ln 10 13 = some 1 := by decide +kernel
theorem ab_ln_11_1 : ab_ln 11 1 = some 0 := by decide +kernel
theorem ab_ln_12_1 : ab_ln 12 1 = some 0 := by decide +kernel
theorem ab_ln_13_3 : ab_ln 13 3 = some 0 := by decide +kernel
theorem ab_ln_13_22 : ab_ln 13 22 = some 1 := by decide +kernel
theorem ab_ln_13_30 : ab_ln 13 30 = some 2 := by decide +kernel
theorem ab_ln_13_36 : ab_ln 13 36 = some 2 := by decide +kernel
theorem ab_ln_14_1 : ab_ln 14 1 = some 0 := by decide +kernel
theorem ab_ln_14_20 : ab_ln 14 20 = some 1 := by decide +kernel
theorem ab_ln_15_1 : ab_ln 15 1 = some 0 := by decide +kernel
theorem ab_ln_15_20 : ab_ln 15 20 = some 1 := by decide +kernel
theorem ab_ln_19_9 : ab_ln 19 9 = some 0 := by decide +kernel
theorem ab_ln_19_12 : ab_ln 19 12 = some 0 := by decide +kernel
theorem ab_ln_19_13 : ab_ln 19 13 = some 5 := by decide +kernel
theorem ab_ln_19_17 : ab_ln 19 17 = some 5 := by decide +kernel
theorem ab_ln_19_18 : ab_ln 19 18 = some 1 := by decide +kernel
theorem ab_ln_19_22 : ab_ln 19 22 = some 1 := by decide +kernel
theorem ab_ln_19_23 : ab_ln 19 23 = some 1 := by decide +kernel
theorem ab_ln_19_26 : ab_ln 19 26 = some 1 := by decide +kernel
theorem ab_ln_19_27 : ab_ln 19 27 = some 1 := by decide +kernel
theorem ab_ln_19_30 : ab_ln 19 30 = some 1 := by decide +kernel
theorem ab_ln_19_31 : ab_ln 19 31 = some 2 := by decide +kernel
theorem ab_ln_19_35 : ab_ln 19 35 = some 2 := by decide +kernel
theorem ab_ln_19_36 : ab_ln 19 36 = some 2 := by decide +kernel
theorem ab_ln_19_39 : ab_ln 19 39 = some 2 := by decide +kernel
theorem ab_ln_19_40 : ab_ln 19 40 = some 2 := by decide +kernel
theorem ab_ln_19_43 : ab_ln 19 43 = some 2 := by decide +kernel
theorem ab_ln_19_44 : ab_ln 19 44 = some 2 := by decide +kernel
theorem ab_ln_19_47 : ab_ln 19 47 = some 2 := by decide +kernel
theorem ab_ln_19_48 : ab_ln 19 48 = some 1 := by decide +kernel
theorem ab_ln_19_51 : ab_ln 19 51 = some 1 := by decide +kernel
theorem ab_ln_19_52 : ab_ln 19 52 = some 1 := by decide +kernel
theorem ab_ln_19_55 : ab_ln 19 55 = some 1 := by decide +kernel
theorem ab_ln_19_56 : ab_ln 19 56 = some 1 := by decide +kernel
theorem ab_ln_19_59 : ab_ln 19 59 = some 1 := by decide +kernel
theorem ab_ln_19_60 : ab_ln 19 60 = some 2 := by decide +kernel
theorem ab_ln_19_63 : ab_ln 19 63 = some 2 := by decide +kernel
theorem ab_ln_19_64 : ab_ln 19 64 = some 1 := by decide +kernel
theorem ab_ln_19_67 : ab_ln 19 67 = some 1 := by decide +kernel
theorem ab_ln_19_68 : ab_ln 19 68 = some 2 := by decide +kernel
theorem ab_ln_19_71 : ab_ln 19 71 = some 2 := by decide +kernel
theorem ab_ln_19_72 : ab_ln 19 72 = some 2 := by decide +kernel
theorem ab_ln_19_75 : ab_ln 19 75 = some 2 := by decide +kernel
theorem ab_ln_19_76 : ab_ln 19 76 = some 3 := by decide +kernel
theorem ab_ln_19_80 : ab_ln 19 80 = some 3 := by decide +kernel
theorem ab_ln_19_81 : ab_ln 19 81 = some 3 := by decide +kernel
theorem ab_ln_19_85 : ab_ln 19 85 = some 3 := by decide +kernel
theorem ab_ln_19_86 : ab_ln 19 86 = some 2 := by decide +kernel
theorem ab_ln_19_89 : ab_ln 19 89 = some 2 := by decide +kernel
theorem ab_ln_19_90 : ab_ln 19 90 = some 2 := by decide +kernel
theorem ab_ln_19_93 : ab_ln 19 93 = some 2 := by decide +kernel
theorem ab_ln_19_94 : ab_ln 19 94 = some 2 := by decide +kernel
theorem ab_ln_19_97 : ab_ln 19 97 = some 2 := by decide +kernel
theorem ab_ln_19_98 : ab_ln 19 98 = some 0 := by decide +kernel
theorem ab_ln_19_102 : ab_ln 19 102 = some 0 := by decide +kernel
theorem ab_ln_19_103 : ab_ln 19 103 = some 1 := by decide +kernel
theorem ab_ln_19_106 : ab_ln 19 106 = some 1 := by decide +kernel
theorem ab_ln_19_107 : ab_ln 19 107 = some 1 := by decide +kernel
theorem ab_ln_19_110 : ab_ln 19 110 = some 1 := by decide +kernel
theorem ab_ln_19_111 : ab_ln 19 111 = some 0 := by decide +kernel
theorem ab_ln_19_114 : ab_ln 19 114 = some 0 := by decide +kernel
theorem ab_ln_19_115 : ab_ln 19 115 = some 1 := by decide +kernel
theorem ab_ln_19_118 : ab_ln 19 118 = some 1 := by decide +kernel
theorem ab_ln_19_119 : ab_ln 19 119 = some 0 := by decide +kernel
theorem ab_ln_19_122 : ab_ln 19 122 = some 0 := by decide +kernel
theorem ab_ln_19_123 : ab_ln 19 123 = some 0 := by decide +kernel
theorem ab_ln_19_126 : ab_ln 19 126 = some 0 := by decide +kernel
theorem ab_ln_19_127 : ab_ln 19 127 = some 0 := by decide +kernel
theorem ab_ln_19_130 : ab_ln 19 130 = some 0 := by decide +kernel
theorem ab_ln_19_131 : ab_ln 19 131 = some 3 := by decide +kernel
theorem ab_ln_19_134 : ab_ln 19 134 = some 3 := by decide +kernel
theorem ab_ln_19_135 : ab_ln 19 135 = some 2 := by decide +kernel
theorem ab_ln_19_138 : ab_ln 19 138 = some 2 := by decide +kernel
theorem ab_ln_19_139 : ab_ln 19 139 = some 2 := by decide +kernel
theorem ab_ln_19_142 : ab_ln 19 142 = some 2 := by decide +kernel
theorem ab_ln_19_143 : ab_ln 19 143 = some 4 := by decide +kernel
theorem ab_ln_19_147 : ab_ln 19 147 = some 4 := by decide +kernel
theorem ab_ln_19_148 : ab_ln 19 148 = some 3 := by decide +kernel
theorem ab_ln_19_151 : ab_ln 19 151 = some 3 := by decide +kernel
theorem ab_ln_19_152 : ab_ln 19 152 = some 3 := by decide +kernel
theorem ab_ln_19_155 : ab_ln 19 155 = some 3 := by decide +kernel
theorem ab_ln_19_158 : ab_ln 19 158 = some 3 := by decide +kernel
theorem ab_ln_19_162 : ab_ln 19 162 = some 3 := by decide +kernel
theorem ab_ln_19_163 : ab_ln 19 163 = some 3 := by decide +kernel
theorem ab_ln_19_166 : ab_ln 19 166 = some 3 := by decide +kernel
theorem ab_ln_19_167 : ab_ln 19 167 = some 1 := by decide +kernel
theorem ab_ln_19_170 : ab_ln 19 170 = some 1 := by decide +kernel
theorem ab_ln_19_171 : ab_ln 19 171 = some 1 := by decide +kernel
theorem ab_ln_19_174 : ab_ln 19 174 = some 1 := by decide +kernel
theorem ab_ln_19_175 : ab_ln 19 175 = some 1 := by decide +kernel
theorem ab_ln_19_178 : ab_ln 19 178 = some 1 := by decide +kernel
def ab_flT : List (Nat × Nat × Nat × Nat) := [(0, 17, 0, 0), (0, 1, 0, 1), (0, 60, 0, 2), (0, 64, 0, 3), (0, 67, 0, 4), (0, 125, 0, 5), (0, 145, 0, 6), (0, 71, 0, 7), (0, 75, 0, 8), (0, 154, 0, 9), (0, 199, 0, 10), (0, 264, 0, 11), (0, 79, 0, 12), (0, 83, 0, 13), (0, 86, 0, 14), (0, 89, 0, 15), (0, 92, 0, 16), (0, 95, 0, 17), (0, 99, 0, 18), (0, 334, 0, 19), (0, 102, 0, 20), (0, 372, 0, 21), (0, 375, 0, 22), (0, 366, 0, 23), (0, 105, 0, 24), (0, 111, 0, 25), (0, 115, 0, 26), (0, 119, 0, 27), (1, 9, 1, 0), (1, 15, 1, 1), (1, 18, 1, 2), (1, 21, 1, 3), (1, 24, 1, 4), (1, 27, 1, 5), (1, 30, 1, 6), (1, 34, 1, 7), (1, 60, 1, 8), (1, 37, 1, 12), (1, 51, 1, 13), (16, 3, 2, 0), (16, 3, 3, 0), (16, 3, 4, 0), (16, 3, 5, 0), (2, 15, 2, 1), (2, 3, 2, 2), (3, 3, 3, 1), (4, 3, 4, 1), (5, 15, 5, 1), (5, 3, 5, 2), (6, 15, 6, 0), (6, 19, 6, 1), (6, 22, 6, 2), (6, 31, 6, 3), (6, 35, 6, 4), (6, 38, 6, 5), (6, 3, 6, 6), (7, 7, 7, 0), (8, 1, 8, 0), (8, 13, 8, 1), (8, 17, 8, 2), (8, 21, 8, 3), (8, 24, 8, 4), (8, 95, 8, 5), (8, 113, 8, 6), (8, 116, 8, 7), (8, 98, 8, 8), (8, 123, 8, 9), (8, 136, 8, 10), (8, 141, 8, 11), (8, 144, 8, 12), (8, 219, 8, 13), (8, 27, 8, 14), (8, 161, 8, 15), (8, 30, 8, 16), (8, 33, 8, 17), (8, 36, 8, 18), (8, 297, 8, 19), (8, 319, 8, 20), (8, 39, 8, 21), (8, 42, 8, 22), (8, 45, 8, 23), (8, 48, 8, 24), (8, 51, 8, 25), (8, 54, 8, 26), (8, 58, 8, 27), (8, 61, 8, 28), (8, 64, 8, 29), (8, 67, 8, 30), (8, 70, 8, 31), (8, 73, 8, 32), (8, 393, 8, 33), (8, 396, 8, 34), (8, 387, 8, 35), (8, 76, 8, 36), (8, 79, 8, 37), (8, 82, 8, 38), (8, 85, 8, 39), (8, 88, 8, 40), (9, 26, 9, 0), (9, 18, 9, 1), (9, 49, 9, 2), (9, 52, 9, 3), (9, 55, 9, 4), (9, 65, 9, 5), (9, 75, 9, 6), (9, 204, 9, 7), (9, 22, 9, 8), (9, 191, 9, 9), (9, 3, 9, 10), (10, 7, 10, 0), (11, 7, 11, 0), (12, 7, 12, 0), (13, 9, 13, 0), (13, 19, 13, 1), (13, 15, 13, 2), (14, 7, 14, 0), (14, 17, 14, 1), (14, 13, 14, 2), (15, 7, 15, 0), (15, 17, 15, 1), (15, 13, 15, 2), (0, 176, 1, 2), (0, 179, 1, 3), (0, 182, 1, 4), (0, 222, 1, 6), (0, 217, 1, 7), (0, 160, 1, 8), (0, 404, 1, 9), (0, 157, 1, 11), (0, 225, 6, 0), (0, 173, 6, 1), (0, 192, 6, 2), (0, 185, 6, 3), (0, 230, 6, 4), (0, 260, 6, 5), (0, 425, 7, 0), (0, 151, 9, 1), (0, 142, 9, 6), (0, 148, 9, 8), (2, 23, 1, 6), (2, 19, 0, 0), (6, 45, 1, 0), (6, 48, 1, 1), (6, 56, 1, 3), (6, 59, 1, 4), (6, 112, 1, 6), (6, 62, 1, 7), (6, 53, 1, 8), (6, 49, 1, 10), (6, 41, 0, 0), (9, 156, 1, 0), (9, 167, 1, 1), (9, 183, 1, 2), (9, 172, 1, 3), (9, 175, 1, 4), (9, 110, 1, 6), (9, 115, 1, 7), (9, 164, 1, 8), (9, 147, 1, 9), (9, 151, 1, 10), (9, 126, 1, 11), (9, 199, 1, 12), (9, 202, 1, 13), (9, 29, 0, 4)]
def ab_fl (own idx c : Nat) : Option Nat := (ab_flT.find? (fun e => e.1 == own && (e.2.1 == idx && e.2.2.1 == c))).map (fun e => e.2.2.2)
theorem ab_fl_0_17_0 : ab_fl 0 17 0 = some 0 := by decide +kernel
theorem ab_fl_0_1_0 : ab_fl 0 1 0 = some 1 := by decide +kernel
theorem ab_fl_0_60_0 : ab_fl 0 60 0 = some 2 := by decide +kernel
theorem ab_fl_0_64_0 : ab_fl 0 64 0 = some 3 := by decide +kernel
theorem ab_fl_0_67_0 : ab_fl 0 67 0 = some 4 := by decide +kernel
theorem ab_fl_0_125_0 : ab_fl 0 125 0 = some 5 := by decide +kernel
theorem ab_fl_0_145_0 : ab_fl 0 145 0 = some 6 := by decide +kernel
theorem ab_fl_0_71_0 : ab_fl 0 71 0 = some 7 := by decide +kernel
theorem ab_fl_0_75_0 : ab_fl 0 75 0 = some 8 := by decide +kernel
theorem ab_fl_0_154_0 : ab_fl 0 154 0 = some 9 := by decide +kernel
theorem ab_fl_0_199_0 : ab_fl 0 199 0 = some 10 := by decide +kernel
theorem ab_fl_0_264_0 : ab_fl 0 264 0 = some 11 := by decide +kernel
theorem ab_fl_0_79_0 : ab_fl 0 79 0 = some 12 := by decide +kernel
theorem ab_fl_0_83_0 : ab_fl 0 83 0 = some 13 := by decide +kernel
theorem ab_fl_0_86_0 : ab_fl 0 86 0 = some 14 := by decide +kernel
theorem ab_fl_0_89_0 : ab_fl 0 89 0 = some 15 := by decide +kernel
theorem ab_fl_0_92_0 : ab_fl 0 92 0 = some 16 := by decide +kernel
theorem ab_fl_0_95_0 : ab_fl 0 95 0 = some 17 := by decide +kernel
theorem ab_fl_0_99_0 : ab_fl 0 99 0 = some 18 := by decide +kernel
theorem ab_fl_0_334_0 : ab_fl 0 334 0 = some 19 := by decide +kernel
theorem ab_fl_0_102_0 : ab_fl 0 102 0 = some 20 := by decide +kernel
theorem ab_fl_0_372_0 : ab_fl 0 372 0 = some 21 := by decide +kernel
theorem ab_fl_0_375_0 : ab_fl 0 375 0 = some 22 := by decide +kernel
theorem ab_fl_0_366_0 : ab_fl 0 366 0 = some 23 := by decide +kernel
theorem ab_fl_0_105_0 : ab_fl 0 105 0 = some 24 := by decide +kernel
theorem ab_fl_0_111_0 : ab_fl 0 111 0 = some 25 := by decide +kernel
theorem ab_fl_0_115_0 : ab_fl 0 115 0 = some 26 := by decide +kernel
theorem ab_fl_0_119_0 : ab_fl 0 119 0 = some 27 := by decide +kernel
theorem ab_fl_1_9_1 : ab_fl 1 9 1 = some 0 := by decide +kernel
theorem ab_fl_1_15_1 : ab_fl 1 15 1 = some 1 := by decide +kernel
theorem ab_fl_1_18_1 : ab_fl 1 18 1 = some 2 := by decide +kernel
theorem ab_fl_1_21_1 : ab_fl 1 21 1 = some 3 := by decide +kernel
theorem ab_fl_1_24_1 : ab_fl 1 24 1 = some 4 := by decide +kernel
theorem ab_fl_1_27_1 : ab_fl 1 27 1 = some 5 := by decide +kernel
theorem ab_fl_1_30_1 : ab_fl 1 30 1 = some 6 := by decide +kernel
theorem ab_fl_1_34_1 : ab_fl 1 34 1 = some 7 := by decide +kernel
theorem ab_fl_1_60_1 : ab_fl 1 60 1 = some 8 := by decide +kernel
theorem ab_fl_1_37_1 : ab_fl 1 37 1 = some 12 := by decide +kernel
theorem ab_fl_1_51_1 : ab_fl 1 51 1 = some 13 := by decide +kernel
theorem ab_fl_16_3_2 : ab_fl 16 3 2 = some 0 := by decide +kernel
theorem ab_fl_16_3_3 : ab_fl 16 3 3 = some 0 := by decide +kernel
theorem ab_fl_16_3_4 : ab_fl 16 3 4 = some 0 := by decide +kernel
theorem ab_fl_16_3_5 : ab_fl 16 3 5 = some 0 := by decide +kernel
theorem ab_fl_2_15_2 : ab_fl 2 15 2 = some 1 := by decide +kernel
theorem ab_fl_2_3_2 : ab_fl 2 3 2 = some 2 := by decide +kernel
theorem ab_fl_3_3_3 : ab_fl 3 3 3 = some 1 := by decide +kernel
theorem ab_fl_4_3_4 : ab_fl 4 3 4 = some 1 := by decide +kernel
theorem ab_fl_5_15_5 : ab_fl 5 15 5 = some 1 := by decide +kernel
theorem ab_fl_5_3_5 : ab_fl 5 3 5 = some 2 := by decide +kernel
theorem ab_fl_6_15_6 : ab_fl 6 15 6 = some 0 := by decide +kernel
theorem ab_fl_6_19_6 : ab_fl 6 19 6 = some 1 := by decide +kernel
theorem ab_fl_6_22_6 : ab_fl 6 22 6 = some 2 := by decide +kernel
theorem ab_fl_6_31_6 : ab_fl 6 31 6 = some 3 := by decide +kernel
theorem ab_fl_6_35_6 : ab_fl 6 35 6 = some 4 := by decide +kernel
theorem ab_fl_6_38_6 : ab_fl 6 38 6 = some 5 := by decide +kernel
theorem ab_fl_6_3_6 : ab_fl 6 3 6 = some 6 := by decide +kernel
theorem ab_fl_7_7_7 : ab_fl 7 7 7 = some 0 := by decide +kernel
theorem ab_fl_8_1_8 : ab_fl 8 1 8 = some 0 := by decide +kernel
theorem ab_fl_8_13_8 : ab_fl 8 13 8 = some 1 := by decide +kernel
theorem ab_fl_8_17_8 : ab_fl 8 17 8 = some 2 := by decide +kernel
theorem ab_fl_8_21_8 : ab_fl 8 21 8 = some 3 := by decide +kernel
theorem ab_fl_8_24_8 : ab_fl 8 24 8 = some 4 := by decide +kernel
theorem ab_fl_8_95_8 : ab_fl 8 95 8 = some 5 := by decide +kernel
theorem ab_fl_8_113_8 : ab_fl 8 113 8 = some 6 := by decide +kernel
theorem ab_fl_8_116_8 : ab_fl 8 116 8 = some 7 := by decide +kernel
theorem ab_fl_8_98_8 : ab_fl 8 98 8 = some 8 := by decide +kernel
theorem ab_fl_8_123_8 : ab_fl 8 123 8 = some 9 := by decide +kernel
theorem ab_fl_8_136_8 : ab_fl 8 136 8 = some 10 := by decide +kernel
theorem ab_fl_8_141_8 : ab_fl 8 141 8 = some 11 := by decide +kernel
theorem ab_fl_8_144_8 : ab_fl 8 144 8 = some 12 := by decide +kernel
theorem ab_fl_8_219_8 : ab_fl 8 219 8 = some 13 := by decide +kernel
theorem ab_fl_8_27_8 : ab_fl 8 27 8 = some 14 := by decide +kernel
theorem ab_fl_8_161_8 : ab_fl 8 161 8 = some 15 := by decide +kernel
theorem ab_fl_8_30_8 : ab_fl 8 30 8 = some 16 := by decide +kernel
theorem ab_fl_8_33_8 : ab_fl 8 33 8 = some 17 := by decide +kernel
theorem ab_fl_8_36_8 : ab_fl 8 36 8 = some 18 := by decide +kernel
theorem ab_fl_8_297_8 : ab_fl 8 297 8 = some 19 := by decide +kernel
theorem ab_fl_8_319_8 : ab_fl 8 319 8 = some 20 := by decide +kernel
theorem ab_fl_8_39_8 : ab_fl 8 39 8 = some 21 := by decide +kernel
theorem ab_fl_8_42_8 : ab_fl 8 42 8 = some 22 := by decide +kernel
theorem ab_fl_8_45_8 : ab_fl 8 45 8 = some 23 := by decide +kernel
theorem ab_fl_8_48_8 : ab_fl 8 48 8 = some 24 := by decide +kernel
theorem ab_fl_8_51_8 : ab_fl 8 51 8 = some 25 := by decide +kernel
theorem ab_fl_8_54_8 : ab_fl 8 54 8 = some 26 := by decide +kernel
theorem ab_fl_8_58_8 : ab_fl 8 58 8 = some 27 := by decide +kernel
theorem ab_fl_8_61_8 : ab_fl 8 61 8 = some 28 := by decide +kernel
theorem ab_fl_8_64_8 : ab_fl 8 64 8 = some 29 := by decide +kernel
theorem ab_fl_8_67_8 : ab_fl 8 67 8 = some 30 := by decide +kernel
theorem ab_fl_8_70_8 : ab_fl 8 70 8 = some 31 := by decide +kernel
theorem ab_fl_8_73_8 : ab_fl 8 73 8 = some 32 := by decide +kernel
theorem ab_fl_8_393_8 : ab_fl 8 393 8 = some 33 := by decide +kernel
theorem ab_fl_8_396_8 : ab_fl 8 396 8 = some 34 := by decide +kernel
theorem ab_fl_8_387_8 : ab_fl 8 387 8 = some 35 := by decide +kernel
theorem ab_fl_8_76_8 : ab_fl 8 76 8 = some 36 := by decide +kernel
theorem ab_fl_8_79_8 : ab_fl 8 79 8 = some 37 := by decide +kernel
theorem ab_fl_8_82_8 : ab_fl 8 82 8 = some 38 := by decide +kernel
theorem ab_fl_8_85_8 : ab_fl 8 85 8 = some 39 := by decide +kernel
theorem ab_fl_8_88_8 : ab_fl 8 88 8 = some 40 := by decide +kernel
theorem ab_fl_9_26_9 : ab_fl 9 26 9 = some 0 := by decide +kernel
theorem ab_fl_9_18_9 : ab_fl 9 18 9 = some 1 := by decide +kernel
theorem ab_fl_9_49_9 : ab_fl 9 49 9 = some 2 := by decide +kernel
theorem ab_fl_9_52_9 : ab_fl 9 52 9 = some 3 := by decide +kernel
theorem ab_fl_9_55_9 : ab_fl 9 55 9 = some 4 := by decide +kernel
theorem ab_fl_9_65_9 : ab_fl 9 65 9 = some 5 := by decide +kernel
theorem ab_fl_9_75_9 : ab_fl 9 75 9 = some 6 := by decide +kernel
theorem ab_fl_9_204_9 : ab_fl 9 204 9 = some 7 := by decide +kernel
theorem ab_fl_9_22_9 : ab_fl 9 22 9 = some 8 := by decide +kernel
theorem ab_fl_9_191_9 : ab_fl 9 191 9 = some 9 := by decide +kernel
theorem ab_fl_9_3_9 : ab_fl 9 3 9 = some 10 := by decide +kernel
theorem ab_fl_10_7_10 : ab_fl 10 7 10 = some 0 := by decide +kernel
theorem ab_fl_11_7_11 : ab_fl 11 7 11 = some 0 := by decide +kernel
theorem ab_fl_12_7_12 : ab_fl 12 7 12 = some 0 := by decide +kernel
theorem ab_fl_13_9_13 : ab_fl 13 9 13 = some 0 := by decide +kernel
theorem ab_fl_13_19_13 : ab_fl 13 19 13 = some 1 := by decide +kernel
theorem ab_fl_13_15_13 : ab_fl 13 15 13 = some 2 := by decide +kernel
theorem ab_fl_14_7_14 : ab_fl 14 7 14 = some 0 := by decide +kernel
theorem ab_fl_14_17_14 : ab_fl 14 17 14 = some 1 := by decide +kernel
theorem ab_fl_14_13_14 : ab_fl 14 13 14 = some 2 := by decide +kernel
theorem ab_fl_15_7_15 : ab_fl 15 7 15 = some 0 := by decide +kernel
theorem ab_fl_15_17_15 : ab_fl 15 17 15 = some 1 := by decide +kernel
theorem ab_fl_15_13_15 : ab_fl 15 13 15 = some 2 := by decide +kernel
theorem ab_fl_0_176_1 : ab_fl 0 176 1 = some 2 := by decide +kernel
theorem ab_fl_0_179_1 : ab_fl 0 179 1 = some 3 := by decide +kernel
theorem ab_fl_0_182_1 : ab_fl 0 182 1 = some 4 := by decide +kernel
theorem ab_fl_0_222_1 : ab_fl 0 222 1 = some 6 := by decide +kernel
theorem ab_fl_0_217_1 : ab_fl 0 217 1 = some 7 := by decide +kernel
theorem ab_fl_0_160_1 : ab_fl 0 160 1 = some 8 := by decide +kernel
theorem ab_fl_0_404_1 : ab_fl 0 404 1 = some 9 := by decide +kernel
theorem ab_fl_0_157_1 : ab_fl 0 157 1 = some 11 := by decide +kernel
theorem ab_fl_0_225_6 : ab_fl 0 225 6 = some 0 := by decide +kernel
theorem ab_fl_0_173_6 : ab_fl 0 173 6 = some 1 := by decide +kernel
theorem ab_fl_0_192_6 : ab_fl 0 192 6 = some 2 := by decide +kernel
theorem ab_fl_0_185_6 : ab_fl 0 185 6 = some 3 := by decide +kernel
theorem ab_fl_0_230_6 : ab_fl 0 230 6 = some 4 := by decide +kernel
theorem ab_fl_0_260_6 : ab_fl 0 260 6 = some 5 := by decide +kernel
theorem ab_fl_0_425_7 : ab_fl 0 425 7 = some 0 := by decide +kernel
theorem ab_fl_0_151_9 : ab_fl 0 151 9 = some 1 := by decide +kernel
theorem ab_fl_0_142_9 : ab_fl 0 142 9 = some 6 := by decide +kernel
theorem ab_fl_0_148_9 : ab_fl 0 148 9 = some 8 := by decide +kernel
theorem ab_fl_2_23_1 : ab_fl 2 23 1 = some 6 := by decide +kernel
theorem ab_fl_2_19_0 : ab_fl 2 19 0 = some 0 := by decide +kernel
theorem ab_fl_6_45_1 : ab_fl 6 45 1 = some 0 := by decide +kernel
theorem ab_fl_6_48_1 : ab_fl 6 48 1 = some 1 := by decide +kernel
theorem ab_fl_6_56_1 : ab_fl 6 56 1 = some 3 := by decide +kernel
theorem ab_fl_6_59_1 : ab_fl 6 59 1 = some 4 := by decide +kernel
theorem ab_fl_6_112_1 : ab_fl 6 112 1 = some 6 := by decide +kernel
theorem ab_fl_6_62_1 : ab_fl 6 62 1 = some 7 := by decide +kernel
theorem ab_fl_6_53_1 : ab_fl 6 53 1 = some 8 := by decide +kernel
theorem ab_fl_6_49_1 : ab_fl 6 49 1 = some 10 := by decide +kernel
theorem ab_fl_6_41_0 : ab_fl 6 41 0 = some 0 := by decide +kernel
theorem ab_fl_9_156_1 : ab_fl 9 156 1 = some 0 := by decide +kernel
theorem ab_fl_9_167_1 : ab_fl 9 167 1 = some 1 := by decide +kernel
theorem ab_fl_9_183_1 : ab_fl 9 183 1 = some 2 := by decide +kernel
theorem ab_fl_9_172_1 : ab_fl 9 172 1 = some 3 := by decide +kernel
theorem ab_fl_9_175_1 : ab_fl 9 175 1 = some 4 := by decide +kernel
theorem ab_fl_9_110_1 : ab_fl 9 110 1 = some 6 := by decide +kernel
theorem ab_fl_9_115_1 : ab_fl 9 115 1 = some 7 := by decide +kernel
theorem ab_fl_9_164_1 : ab_fl 9 164 1 = some 8 := by decide +kernel
theorem ab_fl_9_147_1 : ab_fl 9 147 1 = some 9 := by decide +kernel
theorem ab_fl_9_151_1 : ab_fl 9 151 1 = some 10 := by decide +kernel
theorem ab_fl_9_126_1 : ab_fl 9 126 1 = some 11 := by decide +kernel
theorem ab_fl_9_199_1 : ab_fl 9 199 1 = some 12 := by decide +kernel
theorem ab_fl_9_202_1 : ab_fl 9 202 1 = some 13 := by decide +kernel
theorem ab_fl_9_29_0 : ab_fl 9 29 0 = some 4 := by decide +kernel
def ab_ncT : List (Nat × Nat × Nat) := [(0, 22, 1), (0, 41, 2), (0, 46, 3), (0, 51, 4), (0, 54, 5), (0, 57, 6), (0, 108, 7), (0, 136, 9), (9, 15, 1), (9, 227, 10), (9, 264, 11), (9, 268, 12), (9, 247, 13), (9, 239, 14), (9, 212, 15), (19, 7, 0), (19, 10, 8)]
def ab_nc (own idx : Nat) : Option Nat := (ab_ncT.find? (fun e => e.1 == own && e.2.1 == idx)).map (fun e => e.2.2)
theorem ab_nc_0_22 : ab_nc 0 22 = some 1 := by decide +kernel
theorem ab_nc_0_41 : ab_nc 0 41 = some 2 := by decide +kernel
theorem ab_nc_0_46 : ab_nc 0 46 = some 3 := by decide +kernel
theorem ab_nc_0_51 : ab_nc 0 51 = some 4 := by decide +kernel
theorem ab_nc_0_54 : ab_nc 0 54 = some 5 := by decide +kernel
theorem ab_nc_0_57 : ab_nc 0 57 = some 6 := by decide +kernel
theorem ab_nc_0_108 : ab_nc 0 108 = some 7 := by decide +kernel
theorem ab_nc_0_136 : ab_nc 0 136 = some 9 := by decide +kernel
theorem ab_nc_9_15 : ab_nc 9 15 = some 1 := by decide +kernel
theorem ab_nc_9_227 : ab_nc 9 227 = some 10 := by decide +kernel
theorem ab_nc_9_264 : ab_nc 9 264 = some 11 := by decide +kernel
theorem ab_nc_9_268 : ab_nc 9 268 = some 12 := by decide +kernel
theorem ab_nc_9_247 : ab_nc 9 247 = some 13 := by decide +kernel
theorem ab_nc_9_239 : ab_nc 9 239 = some 14 := by decide +kernel
theorem ab_nc_9_212 : ab_nc 9 212 = some 15 := by decide +kernel
theorem ab_nc_19_7 : ab_nc 19 7 = some 0 := by decide +kernel
theorem ab_nc_19_10 : ab_nc 19 10 = some 8 := by decide +kernel
def ab_naT : List (Nat × Nat × Nat) := [(0, 22, 8), (0, 8, 5), (0, 57, 6), (0, 108, 7), (9, 15, 8)]
def ab_na (own idx : Nat) : Option Nat := (ab_naT.find? (fun e => e.1 == own && e.2.1 == idx)).map (fun e => e.2.2)
theorem ab_na_0_22 : ab_na 0 22 = some 8 := by decide +kernel
theorem ab_na_0_8 : ab_na 0 8 = some 5 := by decide +kernel
theorem ab_na_0_57 : ab_na 0 57 = some 6 := by decide +kernel
theorem ab_na_0_108 : ab_na 0 108 = some 7 := by decide +kernel
theorem ab_na_9_15 : ab_na 9 15 = some 8 := by decide +kernel
def ab_ctT : List (Nat × Nat × Nat) := [(7, 15, 1), (7, 17, 2), (7, 19, 0), (7, 21, 4)]
def ab_ct (own idx : Nat) : Option Nat := (ab_ctT.find? (fun e => e.1 == own && e.2.1 == idx)).map (fun e => e.2.2)
theorem ab_ct_7_15 : ab_ct 7 15 = some 1 := by decide +kernel
theorem ab_ct_7_17 : ab_ct 7 17 = some 2 := by decide +kernel
theorem ab_ct_7_19 : ab_ct 7 19 = some 0 := by decide +kernel
theorem ab_ct_7_21 : ab_ct 7 21 = some 4 := by decide +kernel
def ab_kcT : List (Nat × Nat × Int32) := [(0, 263, 1103515245), (8, 318, 1103515245), (20, 265, 1431655765), (20, 266, 858993459), (20, 267, 252645135), (20, 264, 65536)]
def ab_kc (own idx : Nat) : Option Int32 := (ab_kcT.find? (fun e => e.1 == own && e.2.1 == idx)).map (fun e => e.2.2)
theorem ab_kc_0_263 : ab_kc 0 263 = some (1103515245 : Int32) := by decide +kernel
theorem ab_kc_8_318 : ab_kc 8 318 = some (1103515245 : Int32) := by decide +kernel
theorem ab_kc_20_265 : ab_kc 20 265 = some (1431655765 : Int32) := by decide +kernel
theorem ab_kc_20_266 : ab_kc 20 266 = some (858993459 : Int32) := by decide +kernel
theorem ab_kc_20_267 : ab_kc 20 267 = some (252645135 : Int32) := by decide +kernel
theorem ab_kc_20_264 : ab_kc 20 264 = some (65536 : Int32) := by decide +kernel
def ab_klT : List (Nat × Nat × Int64) := [(0, 163, 999), (0, 220, -1), (0, 228, 99), (0, 233, 48), (0, 252, 3), (0, 270, 40), (0, 319, -2), (0, 321, 12), (0, 323, -3), (0, 329, 60), (0, 378, 10), (0, 414, 9), (0, 420, 100), (0, 436, -6), (0, 440, -7), (1, 58, 8), (6, 69, 6), (6, 98, -1), (6, 100, 200), (6, 102, 209), (6, 104, 49), (6, 106, 10), (6, 108, 100), (6, 110, 159), (6, 115, 9), (8, 258, 999), (8, 249, 6), (8, 227, 1000000), (8, 229, -1000000), (8, 274, -1), (8, 276, 99), (8, 278, 48), (8, 283, 10), (8, 307, 3), (8, 285, 200), (8, 287, 209), (8, 289, 49), (8, 291, 100), (8, 293, 159), (8, 295, 9), (8, 325, 40), (8, 225, 8), (8, 348, -2), (8, 350, 12), (8, 352, -3), (8, 354, 60), (8, 432, -7), (9, 37, 97), (9, 39, 122), (9, 45, 48), (9, 47, 57), (13, 26, -1000000), (13, 28, 1000000), (19, 156, 4294967295)]
def ab_kl (own idx : Nat) : Option Int64 := (ab_klT.find? (fun e => e.1 == own && e.2.1 == idx)).map (fun e => e.2.2)
theorem ab_kl_0_163 : ab_kl 0 163 = some (999 : Int64) := by decide +kernel
theorem ab_kl_0_220 : ab_kl 0 220 = some (-1 : Int64) := by decide +kernel
theorem ab_kl_0_228 : ab_kl 0 228 = some (99 : Int64) := by decide +kernel
theorem ab_kl_0_233 : ab_kl 0 233 = some (48 : Int64) := by decide +kernel
theorem ab_kl_0_252 : ab_kl 0 252 = some (3 : Int64) := by decide +kernel
theorem ab_kl_0_270 : ab_kl 0 270 = some (40 : Int64) := by decide +kernel
theorem ab_kl_0_319 : ab_kl 0 319 = some (-2 : Int64) := by decide +kernel
theorem ab_kl_0_321 : ab_kl 0 321 = some (12 : Int64) := by decide +kernel
theorem ab_kl_0_323 : ab_kl 0 323 = some (-3 : Int64) := by decide +kernel
theorem ab_kl_0_329 : ab_kl 0 329 = some (60 : Int64) := by decide +kernel
theorem ab_kl_0_378 : ab_kl 0 378 = some (10 : Int64) := by decide +kernel
theorem ab_kl_0_414 : ab_kl 0 414 = some (9 : Int64) := by decide +kernel
theorem ab_kl_0_420 : ab_kl 0 420 = some (100 : Int64) := by decide +kernel
theorem ab_kl_0_436 : ab_kl 0 436 = some (-6 : Int64) := by decide +kernel
theorem ab_kl_0_440 : ab_kl 0 440 = some (-7 : Int64) := by decide +kernel
theorem ab_kl_1_58 : ab_kl 1 58 = some (8 : Int64) := by decide +kernel
theorem ab_kl_6_69 : ab_kl 6 69 = some (6 : Int64) := by decide +kernel
theorem ab_kl_6_98 : ab_kl 6 98 = some (-1 : Int64) := by decide +kernel
theorem ab_kl_6_100 : ab_kl 6 100 = some (200 : Int64) := by decide +kernel
theorem ab_kl_6_102 : ab_kl 6 102 = some (209 : Int64) := by decide +kernel
theorem ab_kl_6_104 : ab_kl 6 104 = some (49 : Int64) := by decide +kernel
theorem ab_kl_6_106 : ab_kl 6 106 = some (10 : Int64) := by decide +kernel
theorem ab_kl_6_108 : ab_kl 6 108 = some (100 : Int64) := by decide +kernel
theorem ab_kl_6_110 : ab_kl 6 110 = some (159 : Int64) := by decide +kernel
theorem ab_kl_6_115 : ab_kl 6 115 = some (9 : Int64) := by decide +kernel
theorem ab_kl_8_258 : ab_kl 8 258 = some (999 : Int64) := by decide +kernel
theorem ab_kl_8_249 : ab_kl 8 249 = some (6 : Int64) := by decide +kernel
theorem ab_kl_8_227 : ab_kl 8 227 = some (1000000 : Int64) := by decide +kernel
theorem ab_kl_8_229 : ab_kl 8 229 = some (-1000000 : Int64) := by decide +kernel
theorem ab_kl_8_274 : ab_kl 8 274 = some (-1 : Int64) := by decide +kernel
theorem ab_kl_8_276 : ab_kl 8 276 = some (99 : Int64) := by decide +kernel
theorem ab_kl_8_278 : ab_kl 8 278 = some (48 : Int64) := by decide +kernel
theorem ab_kl_8_283 : ab_kl 8 283 = some (10 : Int64) := by decide +kernel
theorem ab_kl_8_307 : ab_kl 8 307 = some (3 : Int64) := by decide +kernel
theorem ab_kl_8_285 : ab_kl 8 285 = some (200 : Int64) := by decide +kernel
theorem ab_kl_8_287 : ab_kl 8 287 = some (209 : Int64) := by decide +kernel
theorem ab_kl_8_289 : ab_kl 8 289 = some (49 : Int64) := by decide +kernel
theorem ab_kl_8_291 : ab_kl 8 291 = some (100 : Int64) := by decide +kernel
theorem ab_kl_8_293 : ab_kl 8 293 = some (159 : Int64) := by decide +kernel
theorem ab_kl_8_295 : ab_kl 8 295 = some (9 : Int64) := by decide +kernel
theorem ab_kl_8_325 : ab_kl 8 325 = some (40 : Int64) := by decide +kernel
theorem ab_kl_8_225 : ab_kl 8 225 = some (8 : Int64) := by decide +kernel
theorem ab_kl_8_348 : ab_kl 8 348 = some (-2 : Int64) := by decide +kernel
theorem ab_kl_8_350 : ab_kl 8 350 = some (12 : Int64) := by decide +kernel
theorem ab_kl_8_352 : ab_kl 8 352 = some (-3 : Int64) := by decide +kernel
theorem ab_kl_8_354 : ab_kl 8 354 = some (60 : Int64) := by decide +kernel
theorem ab_kl_8_432 : ab_kl 8 432 = some (-7 : Int64) := by decide +kernel
theorem ab_kl_9_37 : ab_kl 9 37 = some (97 : Int64) := by decide +kernel
theorem ab_kl_9_39 : ab_kl 9 39 = some (122 : Int64) := by decide +kernel
theorem ab_kl_9_45 : ab_kl 9 45 = some (48 : Int64) := by decide +kernel
theorem ab_kl_9_47 : ab_kl 9 47 = some (57 : Int64) := by decide +kernel
theorem ab_kl_13_26 : ab_kl 13 26 = some (-1000000 : Int64) := by decide +kernel
theorem ab_kl_13_28 : ab_kl 13 28 = some (1000000 : Int64) := by decide +kernel
theorem ab_kl_19_156 : ab_kl 19 156 = some (4294967295 : Int64) := by decide +kernel
def ab_ksT : List (Nat × Nat × Nat) := [(8, 101, 1), (8, 139, 2), (9, 68, 3), (9, 100, 4), (9, 113, 5), (9, 129, 6), (9, 133, 7), (9, 137, 8), (9, 141, 9), (9, 145, 10), (9, 149, 11), (9, 153, 12), (9, 155, 13), (9, 160, 14), (9, 162, 15), (9, 181, 16), (9, 185, 17), (9, 190, 18), (9, 210, 19), (9, 220, 20), (9, 222, 21), (9, 253, 22), (9, 255, 23), (9, 257, 24), (9, 259, 25)]
def ab_ks (own idx : Nat) : Option Nat := (ab_ksT.find? (fun e => e.1 == own && e.2.1 == idx)).map (fun e => e.2.2)
theorem ab_ks_8_101 : ab_ks 8 101 = some 1 := by decide +kernel
theorem ab_ks_8_139 : ab_ks 8 139 = some 2 := by decide +kernel
theorem ab_ks_9_68 : ab_ks 9 68 = some 3 := by decide +kernel
theorem ab_ks_9_100 : ab_ks 9 100 = some 4 := by decide +kernel
theorem ab_ks_9_113 : ab_ks 9 113 = some 5 := by decide +kernel
theorem ab_ks_9_129 : ab_ks 9 129 = some 6 := by decide +kernel
theorem ab_ks_9_133 : ab_ks 9 133 = some 7 := by decide +kernel
theorem ab_ks_9_137 : ab_ks 9 137 = some 8 := by decide +kernel
theorem ab_ks_9_141 : ab_ks 9 141 = some 9 := by decide +kernel
theorem ab_ks_9_145 : ab_ks 9 145 = some 10 := by decide +kernel
theorem ab_ks_9_149 : ab_ks 9 149 = some 11 := by decide +kernel
theorem ab_ks_9_153 : ab_ks 9 153 = some 12 := by decide +kernel
theorem ab_ks_9_155 : ab_ks 9 155 = some 13 := by decide +kernel
theorem ab_ks_9_160 : ab_ks 9 160 = some 14 := by decide +kernel
theorem ab_ks_9_162 : ab_ks 9 162 = some 15 := by decide +kernel
theorem ab_ks_9_181 : ab_ks 9 181 = some 16 := by decide +kernel
theorem ab_ks_9_185 : ab_ks 9 185 = some 17 := by decide +kernel
theorem ab_ks_9_190 : ab_ks 9 190 = some 18 := by decide +kernel
theorem ab_ks_9_210 : ab_ks 9 210 = some 19 := by decide +kernel
theorem ab_ks_9_220 : ab_ks 9 220 = some 20 := by decide +kernel
theorem ab_ks_9_222 : ab_ks 9 222 = some 21 := by decide +kernel
theorem ab_ks_9_253 : ab_ks 9 253 = some 22 := by decide +kernel
theorem ab_ks_9_255 : ab_ks 9 255 = some 23 := by decide +kernel
theorem ab_ks_9_257 : ab_ks 9 257 = some 24 := by decide +kernel
theorem ab_ks_9_259 : ab_ks 9 259 = some 25 := by decide +kernel
def ab_sxT : List String := [" river week span at rest person west east load to by walks serves foggy hour gap who fog side and or not ", ";:+-*()[]=<>", ";:+-*()[]=<>", "river", "week", "span", "person", "walks", "serves", "foggy", "hour", "rest", "at", "west", "east", "load", "to", "by", "or", "and", "not", "gap", "who", "fog", "side"]
def ab_sx (k : Nat) : String := ab_sxT.getD (k - 1) ""
def ab_sbT : List (List Int32) := [[32, 114, 105, 118, 101, 114, 32, 119, 101, 101, 107, 32, 115, 112, 97, 110, 32, 97, 116, 32, 114, 101, 115, 116, 32, 112, 101, 114, 115, 111, 110, 32, 119, 101, 115, 116, 32, 101, 97, 115, 116, 32, 108, 111, 97, 100, 32, 116, 111, 32, 98, 121, 32, 119, 97, 108, 107, 115, 32, 115, 101, 114, 118, 101, 115, 32, 102, 111, 103, 103, 121, 32, 104, 111, 117, 114, 32, 103, 97, 112, 32, 119, 104, 111, 32, 102, 111, 103, 32, 115, 105, 100, 101, 32, 97, 110, 100, 32, 111, 114, 32, 110, 111, 116, 32],
  [59, 58, 43, 45, 42, 40, 41, 91, 93, 61, 60, 62],
  [59, 58, 43, 45, 42, 40, 41, 91, 93, 61, 60, 62],
  [114, 105, 118, 101, 114],
  [119, 101, 101, 107],
  [115, 112, 97, 110],
  [112, 101, 114, 115, 111, 110],
  [119, 97, 108, 107, 115],
  [115, 101, 114, 118, 101, 115],
  [102, 111, 103, 103, 121],
  [104, 111, 117, 114],
  [114, 101, 115, 116],
  [97, 116],
  [119, 101, 115, 116],
  [101, 97, 115, 116],
  [108, 111, 97, 100],
  [116, 111],
  [98, 121],
  [111, 114],
  [97, 110, 100],
  [110, 111, 116],
  [103, 97, 112],
  [119, 104, 111],
  [102, 111, 103],
  [115, 105, 100, 101]]
def ab_sl (i : Nat) : Nat := (ab_sbT.getD i []).length
def ab_sb (i j : Nat) : Int32 := (ab_sbT.getD i []).getD j 0
def ab_hhT : List (Nat × List (Nat × Nat × Nat × Nat)) := [(284, [(11, 32, 33, 434), (11, 32, 39, 438)]), (285, [(0, 66, 67, 13)])]
def ab_hh (mid : Nat) : Option (List (Nat × Nat × Nat × Nat)) := ab_hhT.lookup mid
