set_option maxRecDepth 1000000
theorem me_0 : ab_me 0 = (0, yX0_init, cX0_init, 1, none, true) := rfl
theorem me_1 : ab_me 1 = (0, yX0_feed, cX0_feed, 6, (some .int), false) := rfl
theorem me_2 : ab_me 2 = (0, yX0_bytes, cX0_bytes, 3, none, false) := rfl
theorem me_3 : ab_me 3 = (0, yX0_river, cX0_river, 3, (some .int), false) := rfl
theorem me_4 : ab_me 4 = (0, yX0_in, cX0_in, 6, (some .boolean), false) := rfl
theorem me_5 : ab_me 5 = (0, yX0_fault, cX0_fault, 2, (some .int), false) := rfl
theorem me_6 : ab_me 6 = (0, yX0_span, cX0_span, 2, (some .int), false) := rfl
theorem me_7 : ab_me 7 = (0, yX0_person, cX0_person, 3, (some .int), false) := rfl
theorem me_8 : ab_me 8 = (0, yX0_isBody, cX0_isBody, 2, (some .boolean), false) := rfl
theorem me_9 : ab_me 9 = (0, yX0_has, cX0_has, 2, (some .boolean), false) := rfl
theorem me_10 : ab_me 10 = (0, yX0_why, cX0_why, 3, (some .int), false) := rfl
theorem me_11 : ab_me 11 = (0, yX0_leads, cX0_leads, 4, (some .int), false) := rfl
theorem me_12 : ab_me 12 = (0, yX0_isAllowed, cX0_isAllowed, 8, (some .boolean), false) := rfl
theorem me_13 : ab_me 13 = (0, yX0_act, cX0_act, 4, (some .int), false) := rfl
theorem me_14 : ab_me 14 = (0, yX0_keeps, cX0_keeps, 1, none, false) := rfl
theorem me_15 : ab_me 15 = (0, yX0_tell, cX0_tell, 4, (some .int), false) := rfl
theorem me_16 : ab_me 16 = (0, yX0_fog, cX0_fog, 3, (some .int), false) := rfl
theorem me_17 : ab_me 17 = (0, yX0_hours, cX0_hours, 4, (some .int), false) := rfl
theorem me_18 : ab_me 18 = (0, yX0_undo, cX0_undo, 2, (some .int), false) := rfl
theorem me_19 : ab_me 19 = (0, yX0_judge, cX0_judge, 6, (some .int), false) := rfl
theorem me_20 : ab_me 20 = (0, yX0_trayFault, cX0_trayFault, 2, (some .int), false) := rfl
theorem me_21 : ab_me 21 = (0, yX0_isTray, cX0_isTray, 1, (some .boolean), false) := rfl
theorem me_22 : ab_me 22 = (0, yX0_goes, cX0_goes, 3, (some .int), false) := rfl
theorem me_23 : ab_me 23 = (0, yX0_perform, cX0_perform, 4, (some .int), false) := rfl
theorem me_24 : ab_me 24 = (0, yX0_year, cX0_year, 6, (some .int), false) := rfl
theorem me_25 : ab_me 25 = (0, yX0_told, cX0_told, 3, (some .int), false) := rfl
theorem me_26 : ab_me 26 = (0, yX0_draw, cX0_draw, 2, (some .int), false) := rfl
theorem me_27 : ab_me 27 = (0, yX0_soonest, cX0_soonest, 3, (some .int), false) := rfl
theorem me_28 : ab_me 28 = (0, yX0_isAsked, cX0_isAsked, 3, (some .boolean), false) := rfl
theorem me_29 : ab_me 29 = (0, yX0_laysOwn, cX0_laysOwn, 1, none, false) := rfl
theorem me_30 : ab_me 30 = (0, yX0_laysTables, cX0_laysTables, 6, none, false) := rfl
theorem me_31 : ab_me 31 = (0, yX0_asksOwn, cX0_asksOwn, 1, none, false) := rfl
theorem me_32 : ab_me 32 = (0, yX0_hoursFrom, cX0_hoursFrom, 7, (some .int), false) := rfl
theorem me_33 : ab_me 33 = (0, yX0_onward, cX0_onward, 8, (some .int), false) := rfl
theorem me_34 : ab_me 34 = (0, yX0_hourIn, cX0_hourIn, 2, (some .int), false) := rfl
theorem me_35 : ab_me 35 = (0, yX0_fogIn, cX0_fogIn, 2, (some .int), false) := rfl
theorem me_36 : ab_me 36 = (0, yX0_leadsIn, cX0_leadsIn, 9, (some .int), false) := rfl
theorem me_37 : ab_me 37 = (0, yX0_way, cX0_way, 4, (some .int), false) := rfl
theorem me_38 : ab_me 38 = (0, yX0_laysWay, cX0_laysWay, 7, (some .int), false) := rfl
theorem me_39 : ab_me 39 = (0, yX0_isGood, cX0_isGood, 3, (some .boolean), false) := rfl
theorem me_40 : ab_me 40 = (0, yX0_ways, cX0_ways, 7, (some .long), false) := rfl
theorem me_41 : ab_me 41 = (0, yX0_counts, cX0_counts, 4, none, false) := rfl
theorem me_42 : ab_me 42 = (0, yX0_reach, cX0_reach, 3, (some .int), false) := rfl
theorem me_43 : ab_me 43 = (0, yX0_reachOf, cX0_reachOf, 5, (some .int), false) := rfl
theorem me_44 : ab_me 44 = (0, yX0_meet, cX0_meet, 3, (some .int), false) := rfl
theorem me_45 : ab_me 45 = (0, yX0_areTwo, cX0_areTwo, 3, (some .boolean), false) := rfl
theorem me_46 : ab_me 46 = (0, yX0_meets, cX0_meets, 6, (some .int), false) := rfl
theorem me_47 : ab_me 47 = (0, yX0_meetAt, cX0_meetAt, 3, (some .int), false) := rfl
theorem me_48 : ab_me 48 = (0, yX0_inTime, cX0_inTime, 1, (some .int), false) := rfl
theorem me_49 : ab_me 49 = (0, yX0_inTimeSet, cX0_inTimeSet, 3, (some .int), false) := rfl
theorem me_50 : ab_me 50 = (0, yX0_isInTime, cX0_isInTime, 3, (some .boolean), false) := rfl
theorem me_51 : ab_me 51 = (0, yX0_spare, cX0_spare, 3, (some .int), false) := rfl
theorem me_52 : ab_me 52 = (0, yX0_needs, cX0_needs, 5, (some .int), false) := rfl
theorem me_53 : ab_me 53 = (0, yX0_moves, cX0_moves, 1, (some .int), false) := rfl
theorem me_54 : ab_me 54 = (0, yX0_movesOf, cX0_movesOf, 3, (some .int), false) := rfl
theorem me_55 : ab_me 55 = (0, yX0_best, cX0_best, 2, (some .int), false) := rfl
theorem me_56 : ab_me 56 = (0, yX0_laysWeeks, cX0_laysWeeks, 1, none, false) := rfl
theorem me_57 : ab_me 57 = (0, yX0_goesWeeks, cX0_goesWeeks, 3, none, false) := rfl
theorem me_58 : ab_me 58 = (0, yX0_sees, cX0_sees, 3, none, false) := rfl
theorem me_59 : ab_me 59 = (0, yX0_weeks, cX0_weeks, 1, (some .int), false) := rfl
theorem me_60 : ab_me 60 = (0, yX0_change, cX0_change, 7, (some .int), false) := rfl
theorem me_61 : ab_me 61 = (0, yX0_shift, cX0_shift, 5, (some .int), false) := rfl
theorem me_62 : ab_me 62 = (0, yX0_fits, cX0_fits, 5, (some .int), false) := rfl
theorem me_63 : ab_me 63 = (0, yX0_seenFault, cX0_seenFault, 6, (some .int), false) := rfl
theorem me_64 : ab_me 64 = (0, yX0_fitting, cX0_fitting, 7, (some .int), false) := rfl
theorem me_65 : ab_me 65 = (0, yX0_firstOdd, cX0_firstOdd, 5, (some .int), false) := rfl
theorem me_66 : ab_me 66 = (0, yX0_spots, cX0_spots, 1, (some .int), false) := rfl
theorem me_67 : ab_me 67 = (0, yX0_surest, cX0_surest, 8, (some .int), false) := rfl
theorem me_68 : ab_me 68 = (0, yX0_odd, cX0_odd, 4, (some .int), false) := rfl
theorem me_69 : ab_me 69 = (0, yX0_chance, cX0_chance, 9, (some .long), false) := rfl
theorem me_70 : ab_me 70 = (0, yX0_chanceOf, cX0_chanceOf, 6, (some .long), false) := rfl
theorem me_71 : ab_me 71 = (0, yX0_tens, cX0_tens, 4, (some .long), false) := rfl
theorem me_72 : ab_me 72 = (0, yX0_likeliest, cX0_likeliest, 10, (some .long), false) := rfl
theorem me_73 : ab_me 73 = (0, yX0_common, cX0_common, 4, (some .long), false) := rfl
theorem me_74 : ab_me 74 = (0, yX0_likely, cX0_likely, 5, (some .int), false) := rfl
theorem me_75 : ab_me 75 = (0, yX0_numbers, cX0_numbers, 4, (some .int), false) := rfl
theorem me_76 : ab_me 76 = (0, yX0_lists, cX0_lists, 8, (some .int), false) := rfl
theorem me_77 : ab_me 77 = (0, yX0_image, cX0_image, 2, (some .int), false) := rfl
theorem me_78 : ab_me 78 = (0, yX0_restore, cX0_restore, 2, (some .int), false) := rfl
theorem me_79 : ab_me 79 = (0, yX0_count, cX0_count, 2, (some .int), false) := rfl
theorem me_80 : ab_me 80 = (0, yX0_riders, cX0_riders, 3, (some .int), false) := rfl
theorem me_81 : ab_me 81 = (1, yX1_init, cX1_init, 1, none, true) := rfl
theorem me_82 : ab_me 82 = (1, yX1_serves, cX1_serves, 5, (some .boolean), false) := rfl
theorem me_83 : ab_me 83 = (1, yX1_lays, cX1_lays, 5, none, false) := rfl
theorem me_84 : ab_me 84 = (1, yX1_walks, cX1_walks, 6, (some .boolean), false) := rfl
theorem me_85 : ab_me 85 = (1, yX1_isSpot, cX1_isSpot, 3, (some .boolean), false) := rfl
theorem me_86 : ab_me 86 = (1, yX1_errands, cX1_errands, 3, (some .int), false) := rfl
theorem me_87 : ab_me 87 = (16, yX2_init, cX2_init, 2, none, true) := rfl
theorem me_88 : ab_me 88 = (16, yX2_gap, cX2_gap, 3, (some .int), false) := rfl
theorem me_89 : ab_me 89 = (2, yX3_init, cX3_init, 3, none, true) := rfl
theorem me_90 : ab_me 90 = (2, yX3_leads, cX3_leads, 3, (some .int), false) := rfl
theorem me_91 : ab_me 91 = (2, yX3_isServed, cX3_isServed, 1, (some .boolean), false) := rfl
theorem me_92 : ab_me 92 = (3, yX4_init, cX4_init, 2, none, true) := rfl
theorem me_93 : ab_me 93 = (3, yX4_leads, cX4_leads, 3, (some .int), false) := rfl
theorem me_94 : ab_me 94 = (3, yX4_isServed, cX4_isServed, 1, (some .boolean), false) := rfl
theorem me_95 : ab_me 95 = (4, yX5_init, cX5_init, 2, none, true) := rfl
theorem me_96 : ab_me 96 = (4, yX5_leads, cX5_leads, 3, (some .int), false) := rfl
theorem me_97 : ab_me 97 = (4, yX5_isServed, cX5_isServed, 1, (some .boolean), false) := rfl
theorem me_98 : ab_me 98 = (5, yX6_init, cX6_init, 3, none, true) := rfl
theorem me_99 : ab_me 99 = (5, yX6_leads, cX6_leads, 3, (some .int), false) := rfl
theorem me_100 : ab_me 100 = (5, yX6_isServed, cX6_isServed, 1, (some .boolean), false) := rfl
theorem me_101 : ab_me 101 = (6, yX7_init, cX7_init, 2, none, true) := rfl
theorem me_102 : ab_me 102 = (6, yX7_begins, cX7_begins, 2, none, false) := rfl
theorem me_103 : ab_me 103 = (6, yX7_sees, cX7_sees, 2, none, false) := rfl
theorem me_104 : ab_me 104 = (6, yX7_lies, cX7_lies, 2, (some .int), false) := rfl
theorem me_105 : ab_me 105 = (6, yX7_whyAct, cX7_whyAct, 7, (some .int), false) := rfl
theorem me_106 : ab_me 106 = (6, yX7_be, cX7_be, 2, (some (.object "MovedSpan$State")), false) := rfl
theorem me_107 : ab_me 107 = (6, yX7_goes, cX7_goes, 3, (some .int), false) := rfl
theorem me_108 : ab_me 108 = (6, yX7_why, cX7_why, 3, (some .int), false) := rfl
theorem me_109 : ab_me 109 = (6, yX7_does, cX7_does, 2, none, false) := rfl
theorem me_110 : ab_me 110 = (7, yX8_init, cX8_init, 1, none, true) := rfl
theorem me_111 : ab_me 111 = (7, yX8_many, cX8_many, 1, (some .int), false) := rfl
theorem me_112 : ab_me 112 = (7, yX8_number, cX8_number, 2, (some .long), false) := rfl
theorem me_113 : ab_me 113 = (7, yX8_puts, cX8_puts, 4, none, false) := rfl
theorem me_114 : ab_me 114 = (8, yX9_init, cX9_init, 1, none, true) := rfl
theorem me_115 : ab_me 115 = (8, yX9_plain, cX9_plain, 2, none, false) := rfl
theorem me_116 : ab_me 116 = (8, yX9_feed, cX9_feed, 8, (some .int), false) := rfl
theorem me_117 : ab_me 117 = (8, yX9_river, cX9_river, 3, (some .int), false) := rfl
theorem me_118 : ab_me 118 = (8, yX9_within, cX9_within, 6, (some .boolean), false) := rfl
theorem me_119 : ab_me 119 = (8, yX9_next, cX9_next, 2, none, false) := rfl
theorem me_120 : ab_me 120 = (8, yX9_see, cX9_see, 2, (some .int), false) := rfl
theorem me_121 : ab_me 121 = (8, yX9_isSmall, cX9_isSmall, 1, (some .boolean), false) := rfl
theorem me_122 : ab_me 122 = (8, yX9_keyAt, cX9_keyAt, 4, (some .int), false) := rfl
theorem me_123 : ab_me 123 = (8, yX9_isDigit, cX9_isDigit, 1, (some .boolean), false) := rfl
theorem me_124 : ab_me 124 = (8, yX9_eats, cX9_eats, 2, (some .boolean), false) := rfl
theorem me_125 : ab_me 125 = (8, yX9_is, cX9_is, 2, (some .boolean), false) := rfl
theorem me_126 : ab_me 126 = (8, yX9_fails, cX9_fails, 2, none, false) := rfl
theorem me_127 : ab_me 127 = (8, yX9_takes, cX9_takes, 4, (some .int), false) := rfl
theorem me_128 : ab_me 128 = (8, yX9_ends, cX9_ends, 1, none, false) := rfl
theorem me_129 : ab_me 129 = (8, yX9_readLine, cX9_readLine, 1, none, false) := rfl
theorem me_130 : ab_me 130 = (8, yX9_readSpan, cX9_readSpan, 3, none, false) := rfl
theorem me_131 : ab_me 131 = (8, yX9_readPerson, cX9_readPerson, 2, none, false) := rfl
theorem me_132 : ab_me 132 = (8, yX9_readSpot, cX9_readSpot, 3, (some .int), false) := rfl
theorem me_133 : ab_me 133 = (8, yX9_readFlag, cX9_readFlag, 4, (some .boolean), false) := rfl
theorem me_134 : ab_me 134 = (8, yX9_readLaw, cX9_readLaw, 3, none, false) := rfl
theorem me_135 : ab_me 135 = (8, yX9_readTruth, cX9_readTruth, 2, none, false) := rfl
theorem me_136 : ab_me 136 = (8, yX9_readBoth, cX9_readBoth, 2, none, false) := rfl
theorem me_137 : ab_me 137 = (8, yX9_readUnit, cX9_readUnit, 3, none, false) := rfl
theorem me_138 : ab_me 138 = (8, yX9_goesIn, cX9_goesIn, 2, (some .boolean), false) := rfl
theorem me_139 : ab_me 139 = (8, yX9_codes, cX9_codes, 2, none, false) := rfl
theorem me_140 : ab_me 140 = (8, yX9_readSum, cX9_readSum, 3, none, false) := rfl
theorem me_141 : ab_me 141 = (8, yX9_readTerm, cX9_readTerm, 2, none, false) := rfl
theorem me_142 : ab_me 142 = (8, yX9_readAtom, cX9_readAtom, 2, none, false) := rfl
theorem me_143 : ab_me 143 = (8, yX9_wordOf, cX9_wordOf, 2, (some .int), false) := rfl
theorem me_144 : ab_me 144 = (8, yX9_doesErrands, cX9_doesErrands, 3, (some .int), false) := rfl
theorem me_145 : ab_me 145 = (8, yX9_isIn, cX9_isIn, 3, (some .boolean), false) := rfl
theorem me_146 : ab_me 146 = (8, yX9_fault, cX9_fault, 2, (some .int), false) := rfl
theorem me_147 : ab_me 147 = (8, yX9_span, cX9_span, 2, (some .int), false) := rfl
theorem me_148 : ab_me 148 = (8, yX9_spanIn, cX9_spanIn, 2, (some .int), false) := rfl
theorem me_149 : ab_me 149 = (8, yX9_person, cX9_person, 3, (some .int), false) := rfl
theorem me_150 : ab_me 150 = (8, yX9_isPerson, cX9_isPerson, 3, (some .boolean), false) := rfl
theorem me_151 : ab_me 151 = (8, yX9_why, cX9_why, 3, (some .int), false) := rfl
theorem me_152 : ab_me 152 = (8, yX9_whyTold, cX9_whyTold, 5, (some .int), false) := rfl
theorem me_153 : ab_me 153 = (8, yX9_fogIn, cX9_fogIn, 2, (some .int), false) := rfl
theorem me_154 : ab_me 154 = (8, yX9_whyAct, cX9_whyAct, 8, (some .int), false) := rfl
theorem me_155 : ab_me 155 = (8, yX9_leads, cX9_leads, 4, (some .int), false) := rfl
theorem me_156 : ab_me 156 = (8, yX9_lets, cX9_lets, 10, (some .boolean), false) := rfl
theorem me_157 : ab_me 157 = (8, yX9_between, cX9_between, 5, (some .int), false) := rfl
theorem me_158 : ab_me 158 = (8, yX9_act, cX9_act, 4, (some .int), false) := rfl
theorem me_159 : ab_me 159 = (8, yX9_keeps, cX9_keeps, 2, none, false) := rfl
theorem me_160 : ab_me 160 = (8, yX9_notes, cX9_notes, 2, none, false) := rfl
theorem me_161 : ab_me 161 = (8, yX9_tell, cX9_tell, 3, (some .int), false) := rfl
theorem me_162 : ab_me 162 = (8, yX9_fog, cX9_fog, 2, (some .int), false) := rfl
theorem me_163 : ab_me 163 = (8, yX9_hours, cX9_hours, 4, (some .int), false) := rfl
theorem me_164 : ab_me 164 = (8, yX9_goesHour, cX9_goesHour, 3, (some .int), false) := rfl
theorem me_165 : ab_me 165 = (8, yX9_undo, cX9_undo, 3, (some .int), false) := rfl
theorem me_166 : ab_me 166 = (8, yX9_judge, cX9_judge, 7, (some .int), false) := rfl
theorem me_167 : ab_me 167 = (8, yX9_noTray, cX9_noTray, 2, (some .int), false) := rfl
theorem me_168 : ab_me 168 = (8, yX9_tells, cX9_tells, 3, (some .int), false) := rfl
theorem me_169 : ab_me 169 = (8, yX9_whyNot, cX9_whyNot, 3, (some .int), false) := rfl
theorem me_170 : ab_me 170 = (8, yX9_does, cX9_does, 2, none, false) := rfl
theorem me_171 : ab_me 171 = (8, yX9_isAgain, cX9_isAgain, 2, none, false) := rfl
theorem me_172 : ab_me 172 = (8, yX9_perform, cX9_perform, 4, (some .int), false) := rfl
theorem me_173 : ab_me 173 = (8, yX9_year, cX9_year, 6, (some .int), false) := rfl
theorem me_174 : ab_me 174 = (8, yX9_drawn, cX9_drawn, 3, (some .int), false) := rfl
theorem me_175 : ab_me 175 = (8, yX9_draw, cX9_draw, 2, (some .int), false) := rfl
theorem me_176 : ab_me 176 = (8, yX9_soonest, cX9_soonest, 3, (some .int), false) := rfl
theorem me_177 : ab_me 177 = (8, yX9_isSpot, cX9_isSpot, 3, (some .boolean), false) := rfl
theorem me_178 : ab_me 178 = (8, yX9_soonestOf, cX9_soonestOf, 3, (some .int), false) := rfl
theorem me_179 : ab_me 179 = (8, yX9_laysLets, cX9_laysLets, 6, none, false) := rfl
theorem me_180 : ab_me 180 = (8, yX9_hoursTo, cX9_hoursTo, 6, (some .int), false) := rfl
theorem me_181 : ab_me 181 = (8, yX9_goesOn, cX9_goesOn, 9, (some .int), false) := rfl
theorem me_182 : ab_me 182 = (8, yX9_way, cX9_way, 5, (some .int), false) := rfl
theorem me_183 : ab_me 183 = (8, yX9_laysWay, cX9_laysWay, 7, (some .int), false) := rfl
theorem me_184 : ab_me 184 = (8, yX9_ways, cX9_ways, 7, (some .long), false) := rfl
theorem me_185 : ab_me 185 = (8, yX9_reach, cX9_reach, 3, (some .int), false) := rfl
theorem me_186 : ab_me 186 = (8, yX9_reachOf, cX9_reachOf, 5, (some .int), false) := rfl
theorem me_187 : ab_me 187 = (8, yX9_meet, cX9_meet, 3, (some .int), false) := rfl
theorem me_188 : ab_me 188 = (8, yX9_meetIn, cX9_meetIn, 4, (some .int), false) := rfl
theorem me_189 : ab_me 189 = (8, yX9_meetAt, cX9_meetAt, 6, (some .int), false) := rfl
theorem me_190 : ab_me 190 = (8, yX9_inTime, cX9_inTime, 1, (some .int), false) := rfl
theorem me_191 : ab_me 191 = (8, yX9_inTimeSet, cX9_inTimeSet, 3, (some .int), false) := rfl
theorem me_192 : ab_me 192 = (8, yX9_isErrand, cX9_isErrand, 2, (some .boolean), false) := rfl
theorem me_193 : ab_me 193 = (8, yX9_isInTime, cX9_isInTime, 4, (some .boolean), false) := rfl
theorem me_194 : ab_me 194 = (8, yX9_spare, cX9_spare, 4, (some .int), false) := rfl
theorem me_195 : ab_me 195 = (8, yX9_needs, cX9_needs, 5, (some .int), false) := rfl
theorem me_196 : ab_me 196 = (8, yX9_moves, cX9_moves, 1, (some .int), false) := rfl
theorem me_197 : ab_me 197 = (8, yX9_movesNow, cX9_movesNow, 3, (some .int), false) := rfl
theorem me_198 : ab_me 198 = (8, yX9_best, cX9_best, 2, (some .int), false) := rfl
theorem me_199 : ab_me 199 = (8, yX9_laysWeeks, cX9_laysWeeks, 2, none, false) := rfl
theorem me_200 : ab_me 200 = (8, yX9_keepsLets, cX9_keepsLets, 3, none, false) := rfl
theorem me_201 : ab_me 201 = (8, yX9_goesWeeks, cX9_goesWeeks, 3, none, false) := rfl
theorem me_202 : ab_me 202 = (8, yX9_laysWeek, cX9_laysWeek, 4, none, false) := rfl
theorem me_203 : ab_me 203 = (8, yX9_inTimeMany, cX9_inTimeMany, 3, (some .int), false) := rfl
theorem me_204 : ab_me 204 = (8, yX9_takesLets, cX9_takesLets, 3, none, false) := rfl
theorem me_205 : ab_me 205 = (8, yX9_errandsMany, cX9_errandsMany, 3, (some .int), false) := rfl
theorem me_206 : ab_me 206 = (8, yX9_weeks, cX9_weeks, 1, (some .int), false) := rfl
theorem me_207 : ab_me 207 = (8, yX9_change, cX9_change, 7, (some .int), false) := rfl
theorem me_208 : ab_me 208 = (8, yX9_shift, cX9_shift, 5, (some .int), false) := rfl
theorem me_209 : ab_me 209 = (8, yX9_fits, cX9_fits, 5, (some .int), false) := rfl
theorem me_210 : ab_me 210 = (8, yX9_noSeen, cX9_noSeen, 5, (some .int), false) := rfl
theorem me_211 : ab_me 211 = (8, yX9_fitting, cX9_fitting, 7, (some .int), false) := rfl
theorem me_212 : ab_me 212 = (8, yX9_oddIn, cX9_oddIn, 5, (some .int), false) := rfl
theorem me_213 : ab_me 213 = (8, yX9_surest, cX9_surest, 8, (some .int), false) := rfl
theorem me_214 : ab_me 214 = (8, yX9_bitsOf, cX9_bitsOf, 3, (some .int), false) := rfl
theorem me_215 : ab_me 215 = (8, yX9_odd, cX9_odd, 4, (some .int), false) := rfl
theorem me_216 : ab_me 216 = (8, yX9_chance, cX9_chance, 9, (some .long), false) := rfl
theorem me_217 : ab_me 217 = (8, yX9_chanceOf, cX9_chanceOf, 9, (some .long), false) := rfl
theorem me_218 : ab_me 218 = (8, yX9_bestOn, cX9_bestOn, 8, (some .long), false) := rfl
theorem me_219 : ab_me 219 = (8, yX9_tens, cX9_tens, 4, (some .long), false) := rfl
theorem me_220 : ab_me 220 = (8, yX9_common, cX9_common, 4, (some .long), false) := rfl
theorem me_221 : ab_me 221 = (8, yX9_likely, cX9_likely, 5, (some .int), false) := rfl
theorem me_222 : ab_me 222 = (8, yX9_numbers, cX9_numbers, 5, (some .int), false) := rfl
theorem me_223 : ab_me 223 = (8, yX9_write, cX9_write, 6, (some .long), false) := rfl
theorem me_224 : ab_me 224 = (8, yX9_cut, cX9_cut, 3, (some .long), false) := rfl
theorem me_225 : ab_me 225 = (8, yX9_lists, cX9_lists, 8, (some .int), false) := rfl
theorem me_226 : ab_me 226 = (8, yX9_image, cX9_image, 3, (some .int), false) := rfl
theorem me_227 : ab_me 227 = (8, yX9_restore, cX9_restore, 3, (some .int), false) := rfl
theorem me_228 : ab_me 228 = (8, yX9_count, cX9_count, 2, (some .int), false) := rfl
theorem me_229 : ab_me 229 = (8, yX9_errandsSet, cX9_errandsSet, 3, (some .int), false) := rfl
theorem me_230 : ab_me 230 = (8, yX9_onSpan, cX9_onSpan, 3, (some .int), false) := rfl
theorem me_231 : ab_me 231 = (9, yX10_init, cX10_init, 3, none, true) := rfl
theorem me_232 : ab_me 232 = (9, yX10_read, cX10_read, 1, none, false) := rfl
theorem me_233 : ab_me 233 = (9, yX10_next, cX10_next, 1, none, false) := rfl
theorem me_234 : ab_me 234 = (9, yX10_see, cX10_see, 2, (some .int), false) := rfl
theorem me_235 : ab_me 235 = (9, yX10_isSmall, cX10_isSmall, 2, (some .boolean), false) := rfl
theorem me_236 : ab_me 236 = (9, yX10_isDigit, cX10_isDigit, 2, (some .boolean), false) := rfl
theorem me_237 : ab_me 237 = (9, yX10_mustWord, cX10_mustWord, 2, none, false) := rfl
theorem me_238 : ab_me 238 = (9, yX10_takes, cX10_takes, 2, (some .boolean), false) := rfl
theorem me_239 : ab_me 239 = (9, yX10_is, cX10_is, 3, (some .boolean), false) := rfl
theorem me_240 : ab_me 240 = (9, yX10_wrong, cX10_wrong, 2, none, false) := rfl
theorem me_241 : ab_me 241 = (9, yX10_number, cX10_number, 4, (some .int), false) := rfl
theorem me_242 : ab_me 242 = (9, yX10_ends, cX10_ends, 1, none, false) := rfl
theorem me_243 : ab_me 243 = (9, yX10_must, cX10_must, 2, none, false) := rfl
theorem me_244 : ab_me 244 = (9, yX10_line, cX10_line, 1, none, false) := rfl
theorem me_245 : ab_me 245 = (9, yX10_span, cX10_span, 3, none, false) := rfl
theorem me_246 : ab_me 246 = (9, yX10_person, cX10_person, 2, none, false) := rfl
theorem me_247 : ab_me 247 = (9, yX10_spot, cX10_spot, 2, (some .int), false) := rfl
theorem me_248 : ab_me 248 = (9, yX10_flag, cX10_flag, 2, (some .boolean), false) := rfl
theorem me_249 : ab_me 249 = (9, yX10_errand, cX10_errand, 4, none, false) := rfl
theorem me_250 : ab_me 250 = (9, yX10_walks, cX10_walks, 2, none, false) := rfl
theorem me_251 : ab_me 251 = (9, yX10_truth, cX10_truth, 2, (some (.object "MovedSpan$Truth")), false) := rfl
theorem me_252 : ab_me 252 = (9, yX10_both, cX10_both, 2, (some (.object "MovedSpan$Truth")), false) := rfl
theorem me_253 : ab_me 253 = (9, yX10_unit, cX10_unit, 3, (some (.object "MovedSpan$Truth")), false) := rfl
theorem me_254 : ab_me 254 = (9, yX10_goesIn, cX10_goesIn, 1, none, false) := rfl
theorem me_255 : ab_me 255 = (9, yX10_isSign, cX10_isSign, 2, (some .boolean), false) := rfl
theorem me_256 : ab_me 256 = (9, yX10_sum, cX10_sum, 3, (some (.object "MovedSpan$Sum")), false) := rfl
theorem me_257 : ab_me 257 = (9, yX10_term, cX10_term, 2, (some (.object "MovedSpan$Sum")), false) := rfl
theorem me_258 : ab_me 258 = (9, yX10_atom, cX10_atom, 3, (some (.object "MovedSpan$Sum")), false) := rfl
theorem me_259 : ab_me 259 = (9, yX10_word, cX10_word, 1, (some .int), false) := rfl
theorem me_260 : ab_me 260 = (9, yX10_serves, cX10_serves, 2, none, false) := rfl
theorem me_261 : ab_me 261 = (17, yX11_init, cX11_init, 1, none, true) := rfl
theorem me_262 : ab_me 262 = (10, yX12_init, cX12_init, 2, none, true) := rfl
theorem me_263 : ab_me 263 = (10, yX12_holds, cX12_holds, 2, (some .boolean), false) := rfl
theorem me_264 : ab_me 264 = (18, yX13_init, cX13_init, 1, none, true) := rfl
theorem me_265 : ab_me 265 = (11, yX14_init, cX14_init, 2, none, true) := rfl
theorem me_266 : ab_me 266 = (11, yX14_value, cX14_value, 2, (some .int), false) := rfl
theorem me_267 : ab_me 267 = (12, yX15_init, cX15_init, 2, none, true) := rfl
theorem me_268 : ab_me 268 = (12, yX15_value, cX15_value, 2, (some .int), false) := rfl
theorem me_269 : ab_me 269 = (13, yX16_init, cX16_init, 4, none, true) := rfl
theorem me_270 : ab_me 270 = (13, yX16_value, cX16_value, 8, (some .int), false) := rfl
theorem me_271 : ab_me 271 = (14, yX17_init, cX17_init, 4, none, true) := rfl
theorem me_272 : ab_me 272 = (14, yX17_holds, cX17_holds, 4, (some .boolean), false) := rfl
theorem me_273 : ab_me 273 = (15, yX18_init, cX18_init, 4, none, true) := rfl
theorem me_274 : ab_me 274 = (15, yX18_holds, cX18_holds, 2, (some .boolean), false) := rfl
theorem me_275 : ab_me 275 = (22, yJ0_indexOf, cJ0_indexOf, 2, (some .int), false) := rfl
theorem me_276 : ab_me 276 = (22, yJ0_length, cJ0_length, 1, (some .int), false) := rfl
theorem me_277 : ab_me 277 = (22, yJ0_charAt, cJ0_charAt, 2, (some .char), false) := rfl
theorem me_278 : ab_me 278 = (21, yJ2_max, cJ2_max, 2, (some .int), false) := rfl
theorem me_279 : ab_me 279 = (21, yJ2_min, cJ2_min, 2, (some .int), false) := rfl
theorem me_280 : ab_me 280 = (21, yJ2_min_2, cJ2_min_2, 4, (some .long), false) := rfl
theorem me_281 : ab_me 281 = (21, yJ2_max_2, cJ2_max_2, 4, (some .long), false) := rfl
theorem me_282 : ab_me 282 = (20, yJ6_bitCount, cJ6_bitCount, 1, (some .int), false) := rfl
theorem me_283 : ab_me 283 = (20, yJ6_numberOfTrailingZeros, cJ6_numberOfTrailingZeros, 2, (some .int), false) := rfl
theorem me_284 : ab_me 284 = (0, yX0_write, cX0_write, 6, (some .long), false) := rfl
theorem me_285 : ab_me 285 = (7, yX8_begins, cX8_begins, 4, (some .boolean), false) := rfl
theorem gv_0_122_6 : ab_csV 0 122 "MovedSpan$State" 102 0 := ab_csV_own (own := 0) (idx := 122) (n := 0) me_102 rfl q363 q364 q365 q144 q366 rfl ⟨by decide +kernel, by decide +kernel, by decide +kernel⟩
theorem gv_0_128_0 : ab_csV 0 128 "MovedSpan" 2 1 := ab_csV_own (own := 0) (idx := 128) (n := 1) me_2 rfl q466 q468 qs1 q137 q469 rfl ⟨by decide +kernel, by decide +kernel, by decide +kernel⟩
theorem gv_0_139_9 : ab_csV 0 139 "MovedSpan$Reader" 232 0 := ab_csV_own (own := 0) (idx := 139) (n := 0) me_232 rfl q522 q523 q524 q148 q525 rfl ⟨by decide +kernel, by decide +kernel, by decide +kernel⟩
theorem gv_0_165_6 : ab_csV 0 165 "MovedSpan$State" 104 1 := ab_csV_own (own := 0) (idx := 165) (n := 1) me_104 rfl q866 q867 q868 q144 q869 rfl ⟨by decide +kernel, by decide +kernel, by decide +kernel⟩
theorem gv_0_169_0 : ab_csV 0 169 "MovedSpan" 8 1 := ab_csV_own (own := 0) (idx := 169) (n := 1) me_8 rfl q874 q876 qs30 q137 q877 rfl ⟨by decide +kernel, by decide +kernel, by decide +kernel⟩
theorem gv_0_195_6 : ab_csV 0 195 "MovedSpan$State" 105 2 := ab_csV_own (own := 0) (idx := 195) (n := 2) me_105 rfl q885 q886 q887 q144 q888 rfl ⟨by decide +kernel, by decide +kernel, by decide +kernel⟩
theorem gv_0_31_2 : ab_csV 0 31 "MovedSpan$Walk" 90 2 := ab_csV_abs (own := 0) (idx := 31) (n := 2) (x := ⟨"MovedSpan$Act", "leads", "(II)I"⟩) me_90 rfl q896 q898 q908 q909 q140 q910 q897 ⟨by decide +kernel, by decide +kernel, by decide +kernel⟩
theorem gv_0_31_3 : ab_csV 0 31 "MovedSpan$Cross" 93 2 := ab_csV_abs (own := 0) (idx := 31) (n := 2) (x := ⟨"MovedSpan$Act", "leads", "(II)I"⟩) me_93 rfl q896 q898 q899 q900 q141 q901 q897 ⟨by decide +kernel, by decide +kernel, by decide +kernel⟩
theorem gv_0_31_4 : ab_csV 0 31 "MovedSpan$GetOn" 96 2 := ab_csV_abs (own := 0) (idx := 31) (n := 2) (x := ⟨"MovedSpan$Act", "leads", "(II)I"⟩) me_96 rfl q896 q898 q905 q906 q142 q907 q897 ⟨by decide +kernel, by decide +kernel, by decide +kernel⟩
theorem gv_0_31_5 : ab_csV 0 31 "MovedSpan$GetOff" 99 2 := ab_csV_abs (own := 0) (idx := 31) (n := 2) (x := ⟨"MovedSpan$Act", "leads", "(II)I"⟩) me_99 rfl q896 q898 q902 q903 q143 q904 q897 ⟨by decide +kernel, by decide +kernel, by decide +kernel⟩
theorem gv_0_7_2 : ab_csV 0 7 "MovedSpan$Walk" 88 2 := ab_csV_inh (own := 0) (idx := 7) (n := 2) (x := ⟨"MovedSpan$Act", "gap", "(II)I"⟩) (owner := "MovedSpan$Act") me_88 rfl q916 q918 q922 q917 q139 q923 rfl ⟨by decide +kernel, by decide +kernel, by decide +kernel⟩
theorem gv_0_7_3 : ab_csV 0 7 "MovedSpan$Cross" 88 2 := ab_csV_inh (own := 0) (idx := 7) (n := 2) (x := ⟨"MovedSpan$Act", "gap", "(II)I"⟩) (owner := "MovedSpan$Act") me_88 rfl q916 q918 q919 q917 q139 q923 rfl ⟨by decide +kernel, by decide +kernel, by decide +kernel⟩
theorem gv_0_7_4 : ab_csV 0 7 "MovedSpan$GetOn" 88 2 := ab_csV_inh (own := 0) (idx := 7) (n := 2) (x := ⟨"MovedSpan$Act", "gap", "(II)I"⟩) (owner := "MovedSpan$Act") me_88 rfl q916 q918 q921 q917 q139 q923 rfl ⟨by decide +kernel, by decide +kernel, by decide +kernel⟩
theorem gv_0_7_5 : ab_csV 0 7 "MovedSpan$GetOff" 88 2 := ab_csV_inh (own := 0) (idx := 7) (n := 2) (x := ⟨"MovedSpan$Act", "gap", "(II)I"⟩) (owner := "MovedSpan$Act") me_88 rfl q916 q918 q920 q917 q139 q923 rfl ⟨by decide +kernel, by decide +kernel, by decide +kernel⟩
theorem gv_0_13_2 : ab_csV 0 13 "MovedSpan$Walk" 91 0 := ab_csV_abs (own := 0) (idx := 13) (n := 0) (x := ⟨"MovedSpan$Act", "isServed", "()Z"⟩) me_91 rfl q924 q926 q936 q937 q140 q938 q925 ⟨by decide +kernel, by decide +kernel, by decide +kernel⟩
theorem gv_0_13_3 : ab_csV 0 13 "MovedSpan$Cross" 94 0 := ab_csV_abs (own := 0) (idx := 13) (n := 0) (x := ⟨"MovedSpan$Act", "isServed", "()Z"⟩) me_94 rfl q924 q926 q927 q928 q141 q929 q925 ⟨by decide +kernel, by decide +kernel, by decide +kernel⟩
theorem gv_0_13_4 : ab_csV 0 13 "MovedSpan$GetOn" 97 0 := ab_csV_abs (own := 0) (idx := 13) (n := 0) (x := ⟨"MovedSpan$Act", "isServed", "()Z"⟩) me_97 rfl q924 q926 q933 q934 q142 q935 q925 ⟨by decide +kernel, by decide +kernel, by decide +kernel⟩
theorem gv_0_13_5 : ab_csV 0 13 "MovedSpan$GetOff" 100 0 := ab_csV_abs (own := 0) (idx := 13) (n := 0) (x := ⟨"MovedSpan$Act", "isServed", "()Z"⟩) me_100 rfl q924 q926 q930 q931 q143 q932 q925 ⟨by decide +kernel, by decide +kernel, by decide +kernel⟩
theorem gv_0_21_1 : ab_csV 0 21 "MovedSpan$River" 82 4 := ab_csV_own (own := 0) (idx := 21) (n := 4) me_82 rfl q939 q940 q941 q138 q942 rfl ⟨by decide +kernel, by decide +kernel, by decide +kernel⟩
theorem gv_0_27_1 : ab_csV 0 27 "MovedSpan$River" 84 5 := ab_csV_own (own := 0) (idx := 27) (n := 5) me_84 rfl q982 q983 q984 q138 q985 rfl ⟨by decide +kernel, by decide +kernel, by decide +kernel⟩
theorem gv_0_211_0 : ab_csV 0 211 "MovedSpan" 14 0 := ab_csV_own (own := 0) (idx := 211) (n := 0) me_14 rfl q990 q992 qs34 q137 q993 rfl ⟨by decide +kernel, by decide +kernel, by decide +kernel⟩
theorem gv_0_202_6 : ab_csV 0 202 "MovedSpan$State" 106 1 := ab_csV_own (own := 0) (idx := 202) (n := 1) me_106 rfl q994 q995 q996 q144 q997 rfl ⟨by decide +kernel, by decide +kernel, by decide +kernel⟩
theorem gv_0_214_0 : ab_csV 0 214 "MovedSpan" 11 3 := ab_csV_own (own := 0) (idx := 214) (n := 3) me_11 rfl q999 q894 qs31 q137 q895 rfl ⟨by decide +kernel, by decide +kernel, by decide +kernel⟩
theorem gv_0_235_6 : ab_csV 0 235 "MovedSpan$State" 107 0 := ab_csV_own (own := 0) (idx := 235) (n := 0) me_107 rfl q1015 q1016 q1017 q144 q1018 rfl ⟨by decide +kernel, by decide +kernel, by decide +kernel⟩
theorem gv_0_254_0 : ab_csV 0 254 "MovedSpan" 20 1 := ab_csV_own (own := 0) (idx := 254) (n := 1) me_20 rfl q1036 q1038 qs35 q137 q1039 rfl ⟨by decide +kernel, by decide +kernel, by decide +kernel⟩
theorem gv_0_257_0 : ab_csV 0 257 "MovedSpan" 22 1 := ab_csV_own (own := 0) (idx := 257) (n := 1) me_22 rfl q1043 q1045 qs36 q137 q1046 rfl ⟨by decide +kernel, by decide +kernel, by decide +kernel⟩
theorem gv_0_239_7 : ab_csV 0 239 "MovedSpan$Numbers" 111 0 := ab_csV_own (own := 0) (idx := 239) (n := 0) me_111 rfl q1047 q1048 q1049 q145 q1050 rfl ⟨by decide +kernel, by decide +kernel, by decide +kernel⟩
theorem gv_0_241_7 : ab_csV 0 241 "MovedSpan$Numbers" 112 1 := ab_csV_own (own := 0) (idx := 241) (n := 1) me_112 rfl q1055 q1056 q1057 q145 q1058 rfl ⟨by decide +kernel, by decide +kernel, by decide +kernel⟩
theorem gv_0_245_6 : ab_csV 0 245 "MovedSpan$State" 108 1 := ab_csV_own (own := 0) (idx := 245) (n := 1) me_108 rfl q1059 q1060 q1061 q144 q1062 rfl ⟨by decide +kernel, by decide +kernel, by decide +kernel⟩
theorem gv_0_249_6 : ab_csV 0 249 "MovedSpan$State" 109 1 := ab_csV_own (own := 0) (idx := 249) (n := 1) me_109 rfl q1071 q1072 q1073 q144 q1074 rfl ⟨by decide +kernel, by decide +kernel, by decide +kernel⟩
theorem gv_0_272_0 : ab_csV 0 272 "MovedSpan" 25 0 := ab_csV_own (own := 0) (idx := 272) (n := 0) me_25 rfl q1085 q1087 qs37 q137 q1088 rfl ⟨by decide +kernel, by decide +kernel, by decide +kernel⟩
theorem gv_0_267_0 : ab_csV 0 267 "MovedSpan" 26 1 := ab_csV_own (own := 0) (idx := 267) (n := 1) me_26 rfl q1089 q1091 qs38 q137 q1092 rfl ⟨by decide +kernel, by decide +kernel, by decide +kernel⟩
theorem gv_0_303_0 : ab_csV 0 303 "MovedSpan" 28 2 := ab_csV_own (own := 0) (idx := 303) (n := 2) me_28 rfl q1098 q1100 qs39 q137 q1101 rfl ⟨by decide +kernel, by decide +kernel, by decide +kernel⟩
theorem gv_0_293_1 : ab_csV 0 293 "MovedSpan$River" 85 1 := ab_csV_own (own := 0) (idx := 293) (n := 1) me_85 rfl q1102 q1103 q1104 q138 q1105 rfl ⟨by decide +kernel, by decide +kernel, by decide +kernel⟩
theorem gv_0_306_0 : ab_csV 0 306 "MovedSpan" 29 0 := ab_csV_own (own := 0) (idx := 306) (n := 0) me_29 rfl q1108 q1110 qs40 q137 q1111 rfl ⟨by decide +kernel, by decide +kernel, by decide +kernel⟩
theorem gv_0_297_0 : ab_csV 0 297 "MovedSpan" 30 0 := ab_csV_own (own := 0) (idx := 297) (n := 0) me_30 rfl q1112 q1114 qs41 q137 q1115 rfl ⟨by decide +kernel, by decide +kernel, by decide +kernel⟩
theorem gv_0_300_0 : ab_csV 0 300 "MovedSpan" 31 0 := ab_csV_own (own := 0) (idx := 300) (n := 0) me_31 rfl q1116 q1118 qs42 q137 q1119 rfl ⟨by decide +kernel, by decide +kernel, by decide +kernel⟩
theorem gv_0_309_0 : ab_csV 0 309 "MovedSpan" 32 4 := ab_csV_own (own := 0) (idx := 309) (n := 4) me_32 rfl q1121 q1123 qs43 q137 q1124 rfl ⟨by decide +kernel, by decide +kernel, by decide +kernel⟩
theorem gv_0_290_0 : ab_csV 0 290 "MovedSpan" 33 3 := ab_csV_own (own := 0) (idx := 290) (n := 3) me_33 rfl q1125 q1127 qs44 q137 q1128 rfl ⟨by decide +kernel, by decide +kernel, by decide +kernel⟩
theorem gv_0_280_0 : ab_csV 0 280 "MovedSpan" 34 1 := ab_csV_own (own := 0) (idx := 280) (n := 1) me_34 rfl q1129 q1131 qs45 q137 q1132 rfl ⟨by decide +kernel, by decide +kernel, by decide +kernel⟩
theorem gv_0_283_0 : ab_csV 0 283 "MovedSpan" 35 1 := ab_csV_own (own := 0) (idx := 283) (n := 1) me_35 rfl q1133 q1135 qs46 q137 q1136 rfl ⟨by decide +kernel, by decide +kernel, by decide +kernel⟩
theorem gv_0_286_0 : ab_csV 0 286 "MovedSpan" 36 5 := ab_csV_own (own := 0) (idx := 286) (n := 5) me_36 rfl q1137 q1139 qs47 q137 q1140 rfl ⟨by decide +kernel, by decide +kernel, by decide +kernel⟩
theorem gv_0_316_0 : ab_csV 0 316 "MovedSpan" 38 2 := ab_csV_own (own := 0) (idx := 316) (n := 2) me_38 rfl q1145 q1147 qs48 q137 q1148 rfl ⟨by decide +kernel, by decide +kernel, by decide +kernel⟩
theorem gv_0_313_0 : ab_csV 0 313 "MovedSpan" 39 2 := ab_csV_own (own := 0) (idx := 313) (n := 2) me_39 rfl q1149 q1151 qs49 q137 q1152 rfl ⟨by decide +kernel, by decide +kernel, by decide +kernel⟩
theorem gv_0_325_0 : ab_csV 0 325 "MovedSpan" 41 2 := ab_csV_own (own := 0) (idx := 325) (n := 2) me_41 rfl q1160 q1162 qs50 q137 q1163 rfl ⟨by decide +kernel, by decide +kernel, by decide +kernel⟩
theorem gv_0_331_0 : ab_csV 0 331 "MovedSpan" 43 2 := ab_csV_own (own := 0) (idx := 331) (n := 2) me_43 rfl q1169 q1171 qs51 q137 q1172 rfl ⟨by decide +kernel, by decide +kernel, by decide +kernel⟩
theorem gv_0_337_0 : ab_csV 0 337 "MovedSpan" 45 2 := ab_csV_own (own := 0) (idx := 337) (n := 2) me_45 rfl q1177 q1179 qs52 q137 q1180 rfl ⟨by decide +kernel, by decide +kernel, by decide +kernel⟩
theorem gv_0_340_0 : ab_csV 0 340 "MovedSpan" 46 2 := ab_csV_own (own := 0) (idx := 340) (n := 2) me_46 rfl q1181 q1183 qs53 q137 q1184 rfl ⟨by decide +kernel, by decide +kernel, by decide +kernel⟩
theorem gv_0_351_0 : ab_csV 0 351 "MovedSpan" 49 0 := ab_csV_own (own := 0) (idx := 351) (n := 0) me_49 rfl q1197 q1199 qs54 q137 q1200 rfl ⟨by decide +kernel, by decide +kernel, by decide +kernel⟩
theorem gv_0_348_0 : ab_csV 0 348 "MovedSpan" 50 2 := ab_csV_own (own := 0) (idx := 348) (n := 2) me_50 rfl q1201 q1203 qs55 q137 q1204 rfl ⟨by decide +kernel, by decide +kernel, by decide +kernel⟩
theorem gv_0_354_0 : ab_csV 0 354 "MovedSpan" 54 0 := ab_csV_own (own := 0) (idx := 354) (n := 0) me_54 rfl q1217 q1219 qs56 q137 q1220 rfl ⟨by decide +kernel, by decide +kernel, by decide +kernel⟩
theorem gv_0_380_0 : ab_csV 0 380 "MovedSpan" 56 0 := ab_csV_own (own := 0) (idx := 380) (n := 0) me_56 rfl q1226 q1228 qs57 q137 q1229 rfl ⟨by decide +kernel, by decide +kernel, by decide +kernel⟩
theorem gv_0_360_0 : ab_csV 0 360 "MovedSpan" 57 1 := ab_csV_own (own := 0) (idx := 360) (n := 1) me_57 rfl q1230 q1232 qs58 q137 q1233 rfl ⟨by decide +kernel, by decide +kernel, by decide +kernel⟩
theorem gv_0_357_0 : ab_csV 0 357 "MovedSpan" 58 0 := ab_csV_own (own := 0) (idx := 357) (n := 0) me_58 rfl q1234 q1236 qs59 q137 q1237 rfl ⟨by decide +kernel, by decide +kernel, by decide +kernel⟩
theorem gv_0_369_1 : ab_csV 0 369 "MovedSpan$River" 86 0 := ab_csV_own (own := 0) (idx := 369) (n := 0) me_86 rfl q1239 q1240 q1241 q138 q1242 rfl ⟨by decide +kernel, by decide +kernel, by decide +kernel⟩
theorem gv_0_390_0 : ab_csV 0 390 "MovedSpan" 63 2 := ab_csV_own (own := 0) (idx := 390) (n := 2) me_63 rfl q1259 q1261 qs60 q137 q1262 rfl ⟨by decide +kernel, by decide +kernel, by decide +kernel⟩
theorem gv_0_393_0 : ab_csV 0 393 "MovedSpan" 64 3 := ab_csV_own (own := 0) (idx := 393) (n := 3) me_64 rfl q1263 q1265 qs61 q137 q1266 rfl ⟨by decide +kernel, by decide +kernel, by decide +kernel⟩
theorem gv_0_386_0 : ab_csV 0 386 "MovedSpan" 65 2 := ab_csV_own (own := 0) (idx := 386) (n := 2) me_65 rfl q1267 q1269 qs62 q137 q1270 rfl ⟨by decide +kernel, by decide +kernel, by decide +kernel⟩
theorem gv_0_383_0 : ab_csV 0 383 "MovedSpan" 66 0 := ab_csV_own (own := 0) (idx := 383) (n := 0) me_66 rfl q1271 q1273 qs63 q137 q1274 rfl ⟨by decide +kernel, by decide +kernel, by decide +kernel⟩
theorem gv_0_416_0 : ab_csV 0 416 "MovedSpan" 70 3 := ab_csV_own (own := 0) (idx := 416) (n := 3) me_70 rfl q1288 q1290 qs64 q137 q1291 rfl ⟨by decide +kernel, by decide +kernel, by decide +kernel⟩
theorem gv_0_407_0 : ab_csV 0 407 "MovedSpan" 72 5 := ab_csV_own (own := 0) (idx := 407) (n := 5) me_72 rfl q1295 q1297 qs65 q137 q1298 rfl ⟨by decide +kernel, by decide +kernel, by decide +kernel⟩
theorem gv_0_429_7 : ab_csV 0 429 "MovedSpan$Numbers" 285 2 := ab_csV_W (own := 0) (idx := 429) (n := 2) me_285 rfl q1312 q1313 q1314 q145 q1315 rfl ⟨by decide +kernel, by decide +kernel, by decide +kernel⟩
theorem gv_0_431_7 : ab_csV 0 431 "MovedSpan$Numbers" 113 2 := ab_csV_own (own := 0) (idx := 431) (n := 2) me_113 rfl q1448 q1449 q1450 q145 q1451 rfl ⟨by decide +kernel, by decide +kernel, by decide +kernel⟩
theorem gv_0_442_0 : ab_csV 0 442 "MovedSpan" 80 0 := ab_csV_own (own := 0) (idx := 442) (n := 0) me_80 rfl q1470 q1472 qs68 q137 q1473 rfl ⟨by decide +kernel, by decide +kernel, by decide +kernel⟩
theorem gv_1_41_1 : ab_csV 1 41 "MovedSpan$River" 83 4 := ab_csV_own (own := 1) (idx := 41) (n := 4) me_83 rfl q943 q945 qs33 q138 q946 rfl ⟨by decide +kernel, by decide +kernel, by decide +kernel⟩
theorem gv_1_45_10 : ab_csV 1 45 "MovedSpan$Not" 263 1 := ab_csV_abs (own := 1) (idx := 45) (n := 1) (x := ⟨"MovedSpan$Truth", "holds", "([I)Z"⟩) me_263 rfl q947 q949 q981 q977 q156 q978 q948 ⟨by decide +kernel, by decide +kernel, by decide +kernel⟩
theorem gv_1_45_14 : ab_csV 1 45 "MovedSpan$Compare" 272 1 := ab_csV_abs (own := 1) (idx := 45) (n := 1) (x := ⟨"MovedSpan$Truth", "holds", "([I)Z"⟩) me_272 rfl q947 q949 q980 q954 q161 q955 q948 ⟨by decide +kernel, by decide +kernel, by decide +kernel⟩
theorem gv_1_45_15 : ab_csV 1 45 "MovedSpan$Both" 274 1 := ab_csV_abs (own := 1) (idx := 45) (n := 1) (x := ⟨"MovedSpan$Truth", "holds", "([I)Z"⟩) me_274 rfl q947 q949 q950 q951 q162 q952 q948 ⟨by decide +kernel, by decide +kernel, by decide +kernel⟩
theorem gv_6_50_6 : ab_csV 6 50 "MovedSpan$State" 103 0 := ab_csV_own (own := 6) (idx := 50) (n := 0) me_103 rfl q370 q372 qs0 q144 q373 rfl ⟨by decide +kernel, by decide +kernel, by decide +kernel⟩
theorem gv_6_71_6 : ab_csV 6 71 "MovedSpan$State" 104 1 := ab_csV_own (own := 6) (idx := 71) (n := 1) me_104 rfl q891 q867 q868 q144 q869 rfl ⟨by decide +kernel, by decide +kernel, by decide +kernel⟩
theorem gv_6_88_6 : ab_csV 6 88 "MovedSpan$State" 105 2 := ab_csV_own (own := 6) (idx := 88) (n := 2) me_105 rfl q1025 q886 q887 q144 q888 rfl ⟨by decide +kernel, by decide +kernel, by decide +kernel⟩
theorem gv_6_117_6 : ab_csV 6 117 "MovedSpan$State" 107 0 := ab_csV_own (own := 6) (idx := 117) (n := 0) me_107 rfl q1075 q1016 q1017 q144 q1018 rfl ⟨by decide +kernel, by decide +kernel, by decide +kernel⟩
theorem gv_8_150_8 : ab_csV 8 150 "MovedSpanModel" 119 0 := ab_csV_own (own := 8) (idx := 150) (n := 0) me_119 rfl q1619 q1621 qs69 q147 q1622 rfl ⟨by decide +kernel, by decide +kernel, by decide +kernel⟩
theorem gv_8_119_8 : ab_csV 8 119 "MovedSpanModel" 120 1 := ab_csV_own (own := 8) (idx := 119) (n := 1) me_120 rfl q1623 q1625 qs70 q147 q1626 rfl ⟨by decide +kernel, by decide +kernel, by decide +kernel⟩
theorem gv_8_130_8 : ab_csV 8 130 "MovedSpanModel" 122 0 := ab_csV_own (own := 8) (idx := 130) (n := 0) me_122 rfl q1630 q1632 qs71 q147 q1633 rfl ⟨by decide +kernel, by decide +kernel, by decide +kernel⟩
theorem gv_8_176_8 : ab_csV 8 176 "MovedSpanModel" 124 1 := ab_csV_own (own := 8) (idx := 176) (n := 1) me_124 rfl q1641 q1643 qs72 q147 q1644 rfl ⟨by decide +kernel, by decide +kernel, by decide +kernel⟩
theorem gv_8_147_8 : ab_csV 8 147 "MovedSpanModel" 125 1 := ab_csV_own (own := 8) (idx := 147) (n := 1) me_125 rfl q1645 q1647 qs73 q147 q1648 rfl ⟨by decide +kernel, by decide +kernel, by decide +kernel⟩
theorem gv_8_153_8 : ab_csV 8 153 "MovedSpanModel" 126 1 := ab_csV_own (own := 8) (idx := 153) (n := 1) me_126 rfl q1649 q1651 qs74 q147 q1652 rfl ⟨by decide +kernel, by decide +kernel, by decide +kernel⟩
theorem gv_8_194_8 : ab_csV 8 194 "MovedSpanModel" 127 2 := ab_csV_own (own := 8) (idx := 194) (n := 2) me_127 rfl q1653 q1655 qs75 q147 q1656 rfl ⟨by decide +kernel, by decide +kernel, by decide +kernel⟩
theorem gv_8_213_8 : ab_csV 8 213 "MovedSpanModel" 128 0 := ab_csV_own (own := 8) (idx := 213) (n := 0) me_128 rfl q1657 q1659 qs76 q147 q1660 rfl ⟨by decide +kernel, by decide +kernel, by decide +kernel⟩
theorem gv_8_216_8 : ab_csV 8 216 "MovedSpanModel" 129 0 := ab_csV_own (own := 8) (idx := 216) (n := 0) me_129 rfl q1661 q1663 qs77 q147 q1664 rfl ⟨by decide +kernel, by decide +kernel, by decide +kernel⟩
theorem gv_8_204_8 : ab_csV 8 204 "MovedSpanModel" 130 0 := ab_csV_own (own := 8) (idx := 204) (n := 0) me_130 rfl q1665 q1667 qs78 q147 q1668 rfl ⟨by decide +kernel, by decide +kernel, by decide +kernel⟩
theorem gv_8_207_8 : ab_csV 8 207 "MovedSpanModel" 131 0 := ab_csV_own (own := 8) (idx := 207) (n := 0) me_131 rfl q1669 q1671 qs79 q147 q1672 rfl ⟨by decide +kernel, by decide +kernel, by decide +kernel⟩
theorem gv_8_198_8 : ab_csV 8 198 "MovedSpanModel" 132 0 := ab_csV_own (own := 8) (idx := 198) (n := 0) me_132 rfl q1673 q1675 qs80 q147 q1676 rfl ⟨by decide +kernel, by decide +kernel, by decide +kernel⟩
theorem gv_8_201_8 : ab_csV 8 201 "MovedSpanModel" 133 1 := ab_csV_own (own := 8) (idx := 201) (n := 1) me_133 rfl q1677 q1679 qs81 q147 q1680 rfl ⟨by decide +kernel, by decide +kernel, by decide +kernel⟩
theorem gv_8_210_8 : ab_csV 8 210 "MovedSpanModel" 134 1 := ab_csV_own (own := 8) (idx := 210) (n := 1) me_134 rfl q1681 q1683 qs82 q147 q1684 rfl ⟨by decide +kernel, by decide +kernel, by decide +kernel⟩
theorem gv_8_188_8 : ab_csV 8 188 "MovedSpanModel" 135 1 := ab_csV_own (own := 8) (idx := 188) (n := 1) me_135 rfl q1685 q1687 qs83 q147 q1688 rfl ⟨by decide +kernel, by decide +kernel, by decide +kernel⟩
theorem gv_8_191_8 : ab_csV 8 191 "MovedSpanModel" 136 1 := ab_csV_own (own := 8) (idx := 191) (n := 1) me_136 rfl q1689 q1691 qs84 q147 q1692 rfl ⟨by decide +kernel, by decide +kernel, by decide +kernel⟩
theorem gv_8_185_8 : ab_csV 8 185 "MovedSpanModel" 137 1 := ab_csV_own (own := 8) (idx := 185) (n := 1) me_137 rfl q1693 q1695 qs85 q147 q1696 rfl ⟨by decide +kernel, by decide +kernel, by decide +kernel⟩
theorem gv_8_170_8 : ab_csV 8 170 "MovedSpanModel" 138 1 := ab_csV_own (own := 8) (idx := 170) (n := 1) me_138 rfl q1697 q1699 qs86 q147 q1700 rfl ⟨by decide +kernel, by decide +kernel, by decide +kernel⟩
theorem gv_8_164_8 : ab_csV 8 164 "MovedSpanModel" 139 1 := ab_csV_own (own := 8) (idx := 164) (n := 1) me_139 rfl q1701 q1703 qs87 q147 q1704 rfl ⟨by decide +kernel, by decide +kernel, by decide +kernel⟩
theorem gv_8_173_8 : ab_csV 8 173 "MovedSpanModel" 140 1 := ab_csV_own (own := 8) (idx := 173) (n := 1) me_140 rfl q1705 q1707 qs88 q147 q1708 rfl ⟨by decide +kernel, by decide +kernel, by decide +kernel⟩
theorem gv_8_182_8 : ab_csV 8 182 "MovedSpanModel" 141 1 := ab_csV_own (own := 8) (idx := 182) (n := 1) me_141 rfl q1709 q1711 qs89 q147 q1712 rfl ⟨by decide +kernel, by decide +kernel, by decide +kernel⟩
theorem gv_8_179_8 : ab_csV 8 179 "MovedSpanModel" 142 1 := ab_csV_own (own := 8) (idx := 179) (n := 1) me_142 rfl q1713 q1715 qs90 q147 q1716 rfl ⟨by decide +kernel, by decide +kernel, by decide +kernel⟩
theorem gv_8_167_8 : ab_csV 8 167 "MovedSpanModel" 143 1 := ab_csV_own (own := 8) (idx := 167) (n := 1) me_143 rfl q1717 q1719 qs91 q147 q1720 rfl ⟨by decide +kernel, by decide +kernel, by decide +kernel⟩
theorem gv_8_222_8 : ab_csV 8 222 "MovedSpanModel" 144 0 := ab_csV_own (own := 8) (idx := 222) (n := 0) me_144 rfl q1721 q1723 qs92 q147 q1724 rfl ⟨by decide +kernel, by decide +kernel, by decide +kernel⟩
theorem gv_8_235_8 : ab_csV 8 235 "MovedSpanModel" 148 1 := ab_csV_own (own := 8) (idx := 235) (n := 1) me_148 rfl q1737 q1739 qs93 q147 q1740 rfl ⟨by decide +kernel, by decide +kernel, by decide +kernel⟩
theorem gv_8_245_8 : ab_csV 8 245 "MovedSpanModel" 150 1 := ab_csV_own (own := 8) (idx := 245) (n := 1) me_150 rfl q1745 q1747 qs94 q147 q1748 rfl ⟨by decide +kernel, by decide +kernel, by decide +kernel⟩
theorem gv_8_264_8 : ab_csV 8 264 "MovedSpanModel" 152 2 := ab_csV_own (own := 8) (idx := 264) (n := 2) me_152 rfl q1753 q1755 qs95 q147 q1756 rfl ⟨by decide +kernel, by decide +kernel, by decide +kernel⟩
theorem gv_8_251_8 : ab_csV 8 251 "MovedSpanModel" 153 1 := ab_csV_own (own := 8) (idx := 251) (n := 1) me_153 rfl q1758 q1760 qs96 q147 q1761 rfl ⟨by decide +kernel, by decide +kernel, by decide +kernel⟩
theorem gv_8_254_8 : ab_csV 8 254 "MovedSpanModel" 154 5 := ab_csV_own (own := 8) (idx := 254) (n := 5) me_154 rfl q1762 q1764 qs97 q147 q1765 rfl ⟨by decide +kernel, by decide +kernel, by decide +kernel⟩
theorem gv_8_238_8 : ab_csV 8 238 "MovedSpanModel" 155 3 := ab_csV_own (own := 8) (idx := 238) (n := 3) me_155 rfl q1766 q1768 qs98 q147 q1769 rfl ⟨by decide +kernel, by decide +kernel, by decide +kernel⟩
theorem gv_8_241_8 : ab_csV 8 241 "MovedSpanModel" 156 6 := ab_csV_own (own := 8) (idx := 241) (n := 6) me_156 rfl q1770 q1772 qs99 q147 q1773 rfl ⟨by decide +kernel, by decide +kernel, by decide +kernel⟩
theorem gv_8_268_8 : ab_csV 8 268 "MovedSpanModel" 159 0 := ab_csV_own (own := 8) (idx := 268) (n := 0) me_159 rfl q1783 q1785 qs100 q147 q1786 rfl ⟨by decide +kernel, by decide +kernel, by decide +kernel⟩
theorem gv_8_271_8 : ab_csV 8 271 "MovedSpanModel" 160 0 := ab_csV_own (own := 8) (idx := 271) (n := 0) me_160 rfl q1787 q1789 qs101 q147 q1790 rfl ⟨by decide +kernel, by decide +kernel, by decide +kernel⟩
theorem gv_8_280_8 : ab_csV 8 280 "MovedSpanModel" 164 0 := ab_csV_own (own := 8) (idx := 280) (n := 0) me_164 rfl q1806 q1808 qs102 q147 q1809 rfl ⟨by decide +kernel, by decide +kernel, by decide +kernel⟩
theorem gv_8_309_8 : ab_csV 8 309 "MovedSpanModel" 167 1 := ab_csV_own (own := 8) (idx := 309) (n := 1) me_167 rfl q1820 q1822 qs103 q147 q1823 rfl ⟨by decide +kernel, by decide +kernel, by decide +kernel⟩
theorem gv_8_312_8 : ab_csV 8 312 "MovedSpanModel" 168 1 := ab_csV_own (own := 8) (idx := 312) (n := 1) me_168 rfl q1824 q1826 qs104 q147 q1827 rfl ⟨by decide +kernel, by decide +kernel, by decide +kernel⟩
theorem gv_8_300_8 : ab_csV 8 300 "MovedSpanModel" 169 1 := ab_csV_own (own := 8) (idx := 300) (n := 1) me_169 rfl q1828 q1830 qs105 q147 q1831 rfl ⟨by decide +kernel, by decide +kernel, by decide +kernel⟩
theorem gv_8_304_8 : ab_csV 8 304 "MovedSpanModel" 170 1 := ab_csV_own (own := 8) (idx := 304) (n := 1) me_170 rfl q1838 q1840 qs106 q147 q1841 rfl ⟨by decide +kernel, by decide +kernel, by decide +kernel⟩
theorem gv_8_315_8 : ab_csV 8 315 "MovedSpanModel" 171 0 := ab_csV_own (own := 8) (idx := 315) (n := 0) me_171 rfl q1842 q1844 qs107 q147 q1845 rfl ⟨by decide +kernel, by decide +kernel, by decide +kernel⟩
theorem gv_8_327_8 : ab_csV 8 327 "MovedSpanModel" 174 0 := ab_csV_own (own := 8) (idx := 327) (n := 0) me_174 rfl q1855 q1857 qs108 q147 q1858 rfl ⟨by decide +kernel, by decide +kernel, by decide +kernel⟩
theorem gv_8_322_8 : ab_csV 8 322 "MovedSpanModel" 175 1 := ab_csV_own (own := 8) (idx := 322) (n := 1) me_175 rfl q1859 q1861 qs109 q147 q1862 rfl ⟨by decide +kernel, by decide +kernel, by decide +kernel⟩
theorem gv_8_339_8 : ab_csV 8 339 "MovedSpanModel" 177 1 := ab_csV_own (own := 8) (idx := 339) (n := 1) me_177 rfl q1868 q1870 qs110 q147 q1871 rfl ⟨by decide +kernel, by decide +kernel, by decide +kernel⟩
theorem gv_8_342_8 : ab_csV 8 342 "MovedSpanModel" 178 2 := ab_csV_own (own := 8) (idx := 342) (n := 2) me_178 rfl q1873 q1875 qs111 q147 q1876 rfl ⟨by decide +kernel, by decide +kernel, by decide +kernel⟩
theorem gv_8_333_8 : ab_csV 8 333 "MovedSpanModel" 179 1 := ab_csV_own (own := 8) (idx := 333) (n := 1) me_179 rfl q1877 q1879 qs112 q147 q1880 rfl ⟨by decide +kernel, by decide +kernel, by decide +kernel⟩
theorem gv_8_336_8 : ab_csV 8 336 "MovedSpanModel" 180 3 := ab_csV_own (own := 8) (idx := 336) (n := 3) me_180 rfl q1881 q1883 qs113 q147 q1884 rfl ⟨by decide +kernel, by decide +kernel, by decide +kernel⟩
theorem gv_8_330_8 : ab_csV 8 330 "MovedSpanModel" 181 3 := ab_csV_own (own := 8) (idx := 330) (n := 3) me_181 rfl q1885 q1887 qs114 q147 q1888 rfl ⟨by decide +kernel, by decide +kernel, by decide +kernel⟩
theorem gv_8_345_8 : ab_csV 8 345 "MovedSpanModel" 183 2 := ab_csV_own (own := 8) (idx := 345) (n := 2) me_183 rfl q1893 q1895 qs115 q147 q1896 rfl ⟨by decide +kernel, by decide +kernel, by decide +kernel⟩
theorem gv_8_356_8 : ab_csV 8 356 "MovedSpanModel" 186 2 := ab_csV_own (own := 8) (idx := 356) (n := 2) me_186 rfl q1909 q1911 qs116 q147 q1912 rfl ⟨by decide +kernel, by decide +kernel, by decide +kernel⟩
theorem gv_8_359_8 : ab_csV 8 359 "MovedSpanModel" 188 2 := ab_csV_own (own := 8) (idx := 359) (n := 2) me_188 rfl q1917 q1919 qs117 q147 q1920 rfl ⟨by decide +kernel, by decide +kernel, by decide +kernel⟩
theorem gv_8_369_8 : ab_csV 8 369 "MovedSpanModel" 191 0 := ab_csV_own (own := 8) (idx := 369) (n := 0) me_191 rfl q1929 q1931 qs118 q147 q1932 rfl ⟨by decide +kernel, by decide +kernel, by decide +kernel⟩
theorem gv_8_362_8 : ab_csV 8 362 "MovedSpanModel" 192 1 := ab_csV_own (own := 8) (idx := 362) (n := 1) me_192 rfl q1933 q1935 qs119 q147 q1936 rfl ⟨by decide +kernel, by decide +kernel, by decide +kernel⟩
theorem gv_8_365_8 : ab_csV 8 365 "MovedSpanModel" 193 2 := ab_csV_own (own := 8) (idx := 365) (n := 2) me_193 rfl q1937 q1939 qs120 q147 q1940 rfl ⟨by decide +kernel, by decide +kernel, by decide +kernel⟩
theorem gv_8_384_8 : ab_csV 8 384 "MovedSpanModel" 197 0 := ab_csV_own (own := 8) (idx := 384) (n := 0) me_197 rfl q1953 q1955 qs121 q147 q1956 rfl ⟨by decide +kernel, by decide +kernel, by decide +kernel⟩
theorem gv_8_402_8 : ab_csV 8 402 "MovedSpanModel" 199 0 := ab_csV_own (own := 8) (idx := 402) (n := 0) me_199 rfl q1961 q1963 qs122 q147 q1964 rfl ⟨by decide +kernel, by decide +kernel, by decide +kernel⟩
theorem gv_8_399_8 : ab_csV 8 399 "MovedSpanModel" 200 0 := ab_csV_own (own := 8) (idx := 399) (n := 0) me_200 rfl q1965 q1967 qs123 q147 q1968 rfl ⟨by decide +kernel, by decide +kernel, by decide +kernel⟩
theorem gv_8_378_8 : ab_csV 8 378 "MovedSpanModel" 201 1 := ab_csV_own (own := 8) (idx := 378) (n := 1) me_201 rfl q1969 q1971 qs124 q147 q1972 rfl ⟨by decide +kernel, by decide +kernel, by decide +kernel⟩
theorem gv_8_375_8 : ab_csV 8 375 "MovedSpanModel" 202 0 := ab_csV_own (own := 8) (idx := 375) (n := 0) me_202 rfl q1973 q1975 qs125 q147 q1976 rfl ⟨by decide +kernel, by decide +kernel, by decide +kernel⟩
theorem gv_8_381_8 : ab_csV 8 381 "MovedSpanModel" 203 0 := ab_csV_own (own := 8) (idx := 381) (n := 0) me_203 rfl q1977 q1979 qs126 q147 q1980 rfl ⟨by decide +kernel, by decide +kernel, by decide +kernel⟩
theorem gv_8_372_8 : ab_csV 8 372 "MovedSpanModel" 204 1 := ab_csV_own (own := 8) (idx := 372) (n := 1) me_204 rfl q1981 q1983 qs127 q147 q1984 rfl ⟨by decide +kernel, by decide +kernel, by decide +kernel⟩
theorem gv_8_390_8 : ab_csV 8 390 "MovedSpanModel" 205 0 := ab_csV_own (own := 8) (idx := 390) (n := 0) me_205 rfl q1985 q1987 qs128 q147 q1988 rfl ⟨by decide +kernel, by decide +kernel, by decide +kernel⟩
theorem gv_8_408_8 : ab_csV 8 408 "MovedSpanModel" 210 2 := ab_csV_own (own := 8) (idx := 408) (n := 2) me_210 rfl q2005 q2007 qs129 q147 q2008 rfl ⟨by decide +kernel, by decide +kernel, by decide +kernel⟩
theorem gv_8_411_8 : ab_csV 8 411 "MovedSpanModel" 211 3 := ab_csV_own (own := 8) (idx := 411) (n := 3) me_211 rfl q2009 q2011 qs130 q147 q2012 rfl ⟨by decide +kernel, by decide +kernel, by decide +kernel⟩
theorem gv_8_405_8 : ab_csV 8 405 "MovedSpanModel" 212 1 := ab_csV_own (own := 8) (idx := 405) (n := 1) me_212 rfl q2013 q2015 qs131 q147 q2016 rfl ⟨by decide +kernel, by decide +kernel, by decide +kernel⟩
theorem gv_8_425_8 : ab_csV 8 425 "MovedSpanModel" 217 3 := ab_csV_own (own := 8) (idx := 425) (n := 3) me_217 rfl q2032 q2034 qs132 q147 q2035 rfl ⟨by decide +kernel, by decide +kernel, by decide +kernel⟩
theorem gv_8_417_8 : ab_csV 8 417 "MovedSpanModel" 218 3 := ab_csV_own (own := 8) (idx := 417) (n := 3) me_218 rfl q2036 q2038 qs133 q147 q2039 rfl ⟨by decide +kernel, by decide +kernel, by decide +kernel⟩
theorem gv_8_438_8 : ab_csV 8 438 "MovedSpanModel" 229 0 := ab_csV_own (own := 8) (idx := 438) (n := 0) me_229 rfl q2078 q2080 qs134 q147 q2081 rfl ⟨by decide +kernel, by decide +kernel, by decide +kernel⟩
theorem gv_8_441_8 : ab_csV 8 441 "MovedSpanModel" 230 0 := ab_csV_own (own := 8) (idx := 441) (n := 0) me_230 rfl q2082 q2084 qs135 q147 q2085 rfl ⟨by decide +kernel, by decide +kernel, by decide +kernel⟩
theorem gv_9_90_9 : ab_csV 9 90 "MovedSpan$Reader" 233 0 := ab_csV_own (own := 9) (idx := 90) (n := 0) me_233 rfl q526 q528 qs2 q148 q529 rfl ⟨by decide +kernel, by decide +kernel, by decide +kernel⟩
theorem gv_9_33_9 : ab_csV 9 33 "MovedSpan$Reader" 234 1 := ab_csV_own (own := 9) (idx := 33) (n := 1) me_234 rfl q530 q532 qs3 q148 q533 rfl ⟨by decide +kernel, by decide +kernel, by decide +kernel⟩
theorem gv_9_58_9 : ab_csV 9 58 "MovedSpan$Reader" 235 1 := ab_csV_own (own := 9) (idx := 58) (n := 1) me_235 rfl q534 q536 qs4 q148 q537 rfl ⟨by decide +kernel, by decide +kernel, by decide +kernel⟩
theorem gv_9_62_9 : ab_csV 9 62 "MovedSpan$Reader" 236 1 := ab_csV_own (own := 9) (idx := 62) (n := 1) me_236 rfl q541 q543 qs5 q148 q544 rfl ⟨by decide +kernel, by decide +kernel, by decide +kernel⟩
theorem gv_9_102_9 : ab_csV 9 102 "MovedSpan$Reader" 237 1 := ab_csV_own (own := 9) (idx := 102) (n := 1) me_237 rfl q635 q637 qs6 q148 q638 rfl ⟨by decide +kernel, by decide +kernel, by decide +kernel⟩
theorem gv_9_97_9 : ab_csV 9 97 "MovedSpan$Reader" 238 1 := ab_csV_own (own := 9) (idx := 97) (n := 1) me_238 rfl q639 q641 qs7 q148 q642 rfl ⟨by decide +kernel, by decide +kernel, by decide +kernel⟩
theorem gv_9_86_9 : ab_csV 9 86 "MovedSpan$Reader" 239 1 := ab_csV_own (own := 9) (idx := 86) (n := 1) me_239 rfl q643 q645 qs8 q148 q646 rfl ⟨by decide +kernel, by decide +kernel, by decide +kernel⟩
theorem gv_9_93_9 : ab_csV 9 93 "MovedSpan$Reader" 240 1 := ab_csV_own (own := 9) (idx := 93) (n := 1) me_240 rfl q668 q670 qs9 q148 q671 rfl ⟨by decide +kernel, by decide +kernel, by decide +kernel⟩
theorem gv_9_106_9 : ab_csV 9 106 "MovedSpan$Reader" 241 2 := ab_csV_own (own := 9) (idx := 106) (n := 2) me_241 rfl q672 q674 qs10 q148 q675 rfl ⟨by decide +kernel, by decide +kernel, by decide +kernel⟩
theorem gv_9_117_9 : ab_csV 9 117 "MovedSpan$Reader" 242 0 := ab_csV_own (own := 9) (idx := 117) (n := 0) me_242 rfl q677 q679 qs11 q148 q680 rfl ⟨by decide +kernel, by decide +kernel, by decide +kernel⟩
theorem gv_9_123_9 : ab_csV 9 123 "MovedSpan$Reader" 243 1 := ab_csV_own (own := 9) (idx := 123) (n := 1) me_243 rfl q681 q683 qs12 q148 q684 rfl ⟨by decide +kernel, by decide +kernel, by decide +kernel⟩
theorem gv_9_120_9 : ab_csV 9 120 "MovedSpan$Reader" 244 0 := ab_csV_own (own := 9) (idx := 120) (n := 0) me_244 rfl q685 q687 qs13 q148 q688 rfl ⟨by decide +kernel, by decide +kernel, by decide +kernel⟩
theorem gv_9_131_9 : ab_csV 9 131 "MovedSpan$Reader" 245 0 := ab_csV_own (own := 9) (idx := 131) (n := 0) me_245 rfl q690 q692 qs14 q148 q693 rfl ⟨by decide +kernel, by decide +kernel, by decide +kernel⟩
theorem gv_9_135_9 : ab_csV 9 135 "MovedSpan$Reader" 246 0 := ab_csV_own (own := 9) (idx := 135) (n := 0) me_246 rfl q697 q699 qs15 q148 q700 rfl ⟨by decide +kernel, by decide +kernel, by decide +kernel⟩
theorem gv_9_169_9 : ab_csV 9 169 "MovedSpan$Reader" 247 0 := ab_csV_own (own := 9) (idx := 169) (n := 0) me_247 rfl q701 q703 qs16 q148 q704 rfl ⟨by decide +kernel, by decide +kernel, by decide +kernel⟩
theorem gv_9_178_9 : ab_csV 9 178 "MovedSpan$Reader" 248 1 := ab_csV_own (own := 9) (idx := 178) (n := 1) me_248 rfl q707 q709 qs17 q148 q710 rfl ⟨by decide +kernel, by decide +kernel, by decide +kernel⟩
theorem gv_9_187_9 : ab_csV 9 187 "MovedSpan$Reader" 249 1 := ab_csV_own (own := 9) (idx := 187) (n := 1) me_249 rfl q713 q715 qs18 q148 q716 rfl ⟨by decide +kernel, by decide +kernel, by decide +kernel⟩
theorem gv_9_139_9 : ab_csV 9 139 "MovedSpan$Reader" 250 0 := ab_csV_own (own := 9) (idx := 139) (n := 0) me_250 rfl q719 q721 qs19 q148 q722 rfl ⟨by decide +kernel, by decide +kernel, by decide +kernel⟩
theorem gv_9_195_9 : ab_csV 9 195 "MovedSpan$Reader" 251 0 := ab_csV_own (own := 9) (idx := 195) (n := 0) me_251 rfl q723 q725 qs20 q148 q726 rfl ⟨by decide +kernel, by decide +kernel, by decide +kernel⟩
theorem gv_9_207_9 : ab_csV 9 207 "MovedSpan$Reader" 252 0 := ab_csV_own (own := 9) (idx := 207) (n := 0) me_252 rfl q727 q729 qs21 q148 q730 rfl ⟨by decide +kernel, by decide +kernel, by decide +kernel⟩
theorem gv_9_217_9 : ab_csV 9 217 "MovedSpan$Reader" 253 0 := ab_csV_own (own := 9) (idx := 217) (n := 0) me_253 rfl q731 q733 qs22 q148 q734 rfl ⟨by decide +kernel, by decide +kernel, by decide +kernel⟩
theorem gv_9_224_9 : ab_csV 9 224 "MovedSpan$Reader" 254 0 := ab_csV_own (own := 9) (idx := 224) (n := 0) me_254 rfl q736 q738 qs23 q148 q739 rfl ⟨by decide +kernel, by decide +kernel, by decide +kernel⟩
theorem gv_9_232_9 : ab_csV 9 232 "MovedSpan$Reader" 255 1 := ab_csV_own (own := 9) (idx := 232) (n := 1) me_255 rfl q753 q755 qs24 q148 q756 rfl ⟨by decide +kernel, by decide +kernel, by decide +kernel⟩
theorem gv_9_235_9 : ab_csV 9 235 "MovedSpan$Reader" 256 0 := ab_csV_own (own := 9) (idx := 235) (n := 0) me_256 rfl q757 q759 qs25 q148 q760 rfl ⟨by decide +kernel, by decide +kernel, by decide +kernel⟩
theorem gv_9_244_9 : ab_csV 9 244 "MovedSpan$Reader" 257 0 := ab_csV_own (own := 9) (idx := 244) (n := 0) me_257 rfl q761 q763 qs26 q148 q764 rfl ⟨by decide +kernel, by decide +kernel, by decide +kernel⟩
theorem gv_9_250_9 : ab_csV 9 250 "MovedSpan$Reader" 258 0 := ab_csV_own (own := 9) (idx := 250) (n := 0) me_258 rfl q765 q767 qs27 q148 q768 rfl ⟨by decide +kernel, by decide +kernel, by decide +kernel⟩
theorem gv_9_261_9 : ab_csV 9 261 "MovedSpan$Reader" 259 0 := ab_csV_own (own := 9) (idx := 261) (n := 0) me_259 rfl q769 q771 qs28 q148 q772 rfl ⟨by decide +kernel, by decide +kernel, by decide +kernel⟩
theorem gv_9_143_9 : ab_csV 9 143 "MovedSpan$Reader" 260 0 := ab_csV_own (own := 9) (idx := 143) (n := 0) me_260 rfl q852 q854 qs29 q148 q855 rfl ⟨by decide +kernel, by decide +kernel, by decide +kernel⟩
theorem gv_10_13_10 : ab_csV 10 13 "MovedSpan$Not" 263 1 := ab_csV_abs (own := 10) (idx := 13) (n := 1) (x := ⟨"MovedSpan$Truth", "holds", "([I)Z"⟩) me_263 rfl q979 q949 q981 q977 q156 q978 q948 ⟨by decide +kernel, by decide +kernel, by decide +kernel⟩
theorem gv_10_13_14 : ab_csV 10 13 "MovedSpan$Compare" 272 1 := ab_csV_abs (own := 10) (idx := 13) (n := 1) (x := ⟨"MovedSpan$Truth", "holds", "([I)Z"⟩) me_272 rfl q979 q949 q980 q954 q161 q955 q948 ⟨by decide +kernel, by decide +kernel, by decide +kernel⟩
theorem gv_10_13_15 : ab_csV 10 13 "MovedSpan$Both" 274 1 := ab_csV_abs (own := 10) (idx := 13) (n := 1) (x := ⟨"MovedSpan$Truth", "holds", "([I)Z"⟩) me_274 rfl q979 q949 q950 q951 q162 q952 q948 ⟨by decide +kernel, by decide +kernel, by decide +kernel⟩
theorem gv_13_22_11 : ab_csV 13 22 "MovedSpan$Known" 266 1 := ab_csV_abs (own := 13) (idx := 22) (n := 1) (x := ⟨"MovedSpan$Sum", "value", "([I)I"⟩) me_266 rfl q965 q958 q959 q960 q158 q961 q957 ⟨by decide +kernel, by decide +kernel, by decide +kernel⟩
theorem gv_13_22_12 : ab_csV 13 22 "MovedSpan$Plain" 268 1 := ab_csV_abs (own := 13) (idx := 22) (n := 1) (x := ⟨"MovedSpan$Sum", "value", "([I)I"⟩) me_268 rfl q965 q958 q976 q966 q159 q967 q957 ⟨by decide +kernel, by decide +kernel, by decide +kernel⟩
theorem gv_13_22_13 : ab_csV 13 22 "MovedSpan$Pair" 270 1 := ab_csV_abs (own := 13) (idx := 22) (n := 1) (x := ⟨"MovedSpan$Sum", "value", "([I)I"⟩) me_270 rfl q965 q958 q962 q963 q160 q964 q957 ⟨by decide +kernel, by decide +kernel, by decide +kernel⟩
theorem gv_14_20_11 : ab_csV 14 20 "MovedSpan$Known" 266 1 := ab_csV_abs (own := 14) (idx := 20) (n := 1) (x := ⟨"MovedSpan$Sum", "value", "([I)I"⟩) me_266 rfl q956 q958 q959 q960 q158 q961 q957 ⟨by decide +kernel, by decide +kernel, by decide +kernel⟩
theorem gv_14_20_12 : ab_csV 14 20 "MovedSpan$Plain" 268 1 := ab_csV_abs (own := 14) (idx := 20) (n := 1) (x := ⟨"MovedSpan$Sum", "value", "([I)I"⟩) me_268 rfl q956 q958 q976 q966 q159 q967 q957 ⟨by decide +kernel, by decide +kernel, by decide +kernel⟩
theorem gv_14_20_13 : ab_csV 14 20 "MovedSpan$Pair" 270 1 := ab_csV_abs (own := 14) (idx := 20) (n := 1) (x := ⟨"MovedSpan$Sum", "value", "([I)I"⟩) me_270 rfl q956 q958 q962 q963 q160 q964 q957 ⟨by decide +kernel, by decide +kernel, by decide +kernel⟩
theorem gv_15_20_10 : ab_csV 15 20 "MovedSpan$Not" 263 1 := ab_csV_abs (own := 15) (idx := 20) (n := 1) (x := ⟨"MovedSpan$Truth", "holds", "([I)Z"⟩) me_263 rfl q953 q949 q981 q977 q156 q978 q948 ⟨by decide +kernel, by decide +kernel, by decide +kernel⟩
theorem gv_15_20_14 : ab_csV 15 20 "MovedSpan$Compare" 272 1 := ab_csV_abs (own := 15) (idx := 20) (n := 1) (x := ⟨"MovedSpan$Truth", "holds", "([I)Z"⟩) me_272 rfl q953 q949 q980 q954 q161 q955 q948 ⟨by decide +kernel, by decide +kernel, by decide +kernel⟩
theorem gv_15_20_15 : ab_csV 15 20 "MovedSpan$Both" 274 1 := ab_csV_abs (own := 15) (idx := 20) (n := 1) (x := ⟨"MovedSpan$Truth", "holds", "([I)Z"⟩) me_274 rfl q953 q949 q950 q951 q162 q952 q948 ⟨by decide +kernel, by decide +kernel, by decide +kernel⟩
theorem gv_19_13_0 : ab_csV 19 13 "MovedSpan" 1 5 := ab_csV_own (own := 19) (idx := 13) (n := 5) me_1 rfl q462 q463 q464 q137 q465 rfl ⟨by decide +kernel, by decide +kernel, by decide +kernel⟩
theorem gv_19_18_0 : ab_csV 19 18 "MovedSpan" 3 1 := ab_csV_own (own := 19) (idx := 18) (n := 1) me_3 rfl q470 q471 q472 q137 q473 rfl ⟨by decide +kernel, by decide +kernel, by decide +kernel⟩
theorem gv_19_23_0 : ab_csV 19 23 "MovedSpan" 5 1 := ab_csV_own (own := 19) (idx := 23) (n := 1) me_5 rfl q857 q858 q859 q137 q860 rfl ⟨by decide +kernel, by decide +kernel, by decide +kernel⟩
theorem gv_19_27_0 : ab_csV 19 27 "MovedSpan" 6 1 := ab_csV_own (own := 19) (idx := 27) (n := 1) me_6 rfl q861 q862 q863 q137 q864 rfl ⟨by decide +kernel, by decide +kernel, by decide +kernel⟩
theorem gv_19_31_0 : ab_csV 19 31 "MovedSpan" 7 2 := ab_csV_own (own := 19) (idx := 31) (n := 2) me_7 rfl q870 q871 q872 q137 q873 rfl ⟨by decide +kernel, by decide +kernel, by decide +kernel⟩
theorem gv_19_36_0 : ab_csV 19 36 "MovedSpan" 10 2 := ab_csV_own (own := 19) (idx := 36) (n := 2) me_10 rfl q881 q882 q883 q137 q884 rfl ⟨by decide +kernel, by decide +kernel, by decide +kernel⟩
theorem gv_19_40_0 : ab_csV 19 40 "MovedSpan" 13 2 := ab_csV_own (own := 19) (idx := 40) (n := 2) me_13 rfl q986 q987 q988 q137 q989 rfl ⟨by decide +kernel, by decide +kernel, by decide +kernel⟩
theorem gv_19_44_0 : ab_csV 19 44 "MovedSpan" 15 2 := ab_csV_own (own := 19) (idx := 44) (n := 2) me_15 rfl q1000 q1001 q1002 q137 q1003 rfl ⟨by decide +kernel, by decide +kernel, by decide +kernel⟩
theorem gv_19_48_0 : ab_csV 19 48 "MovedSpan" 16 1 := ab_csV_own (own := 19) (idx := 48) (n := 1) me_16 rfl q1005 q1006 q1007 q137 q1008 rfl ⟨by decide +kernel, by decide +kernel, by decide +kernel⟩
theorem gv_19_52_0 : ab_csV 19 52 "MovedSpan" 17 1 := ab_csV_own (own := 19) (idx := 52) (n := 1) me_17 rfl q1010 q1011 q1012 q137 q1013 rfl ⟨by decide +kernel, by decide +kernel, by decide +kernel⟩
theorem gv_19_56_0 : ab_csV 19 56 "MovedSpan" 18 1 := ab_csV_own (own := 19) (idx := 56) (n := 1) me_18 rfl q1027 q1028 q1029 q137 q1030 rfl ⟨by decide +kernel, by decide +kernel, by decide +kernel⟩
theorem gv_19_60_0 : ab_csV 19 60 "MovedSpan" 19 2 := ab_csV_own (own := 19) (idx := 60) (n := 2) me_19 rfl q1031 q1032 q1033 q137 q1034 rfl ⟨by decide +kernel, by decide +kernel, by decide +kernel⟩
theorem gv_19_64_0 : ab_csV 19 64 "MovedSpan" 23 1 := ab_csV_own (own := 19) (idx := 64) (n := 1) me_23 rfl q1076 q1077 q1078 q137 q1079 rfl ⟨by decide +kernel, by decide +kernel, by decide +kernel⟩
theorem gv_19_68_0 : ab_csV 19 68 "MovedSpan" 24 2 := ab_csV_own (own := 19) (idx := 68) (n := 2) me_24 rfl q1080 q1081 q1082 q137 q1083 rfl ⟨by decide +kernel, by decide +kernel, by decide +kernel⟩
theorem gv_19_72_0 : ab_csV 19 72 "MovedSpan" 27 2 := ab_csV_own (own := 19) (idx := 72) (n := 2) me_27 rfl q1094 q1095 q1096 q137 q1097 rfl ⟨by decide +kernel, by decide +kernel, by decide +kernel⟩
theorem gv_19_76_0 : ab_csV 19 76 "MovedSpan" 37 3 := ab_csV_own (own := 19) (idx := 76) (n := 3) me_37 rfl q1141 q1142 q1143 q137 q1144 rfl ⟨by decide +kernel, by decide +kernel, by decide +kernel⟩
theorem gv_19_81_0 : ab_csV 19 81 "MovedSpan" 40 3 := ab_csV_own (own := 19) (idx := 81) (n := 3) me_40 rfl q1153 q1154 q1155 q137 q1156 rfl ⟨by decide +kernel, by decide +kernel, by decide +kernel⟩
theorem gv_19_86_0 : ab_csV 19 86 "MovedSpan" 42 2 := ab_csV_own (own := 19) (idx := 86) (n := 2) me_42 rfl q1164 q1165 q1166 q137 q1167 rfl ⟨by decide +kernel, by decide +kernel, by decide +kernel⟩
theorem gv_19_90_0 : ab_csV 19 90 "MovedSpan" 44 2 := ab_csV_own (own := 19) (idx := 90) (n := 2) me_44 rfl q1173 q1174 q1175 q137 q1176 rfl ⟨by decide +kernel, by decide +kernel, by decide +kernel⟩
theorem gv_19_94_0 : ab_csV 19 94 "MovedSpan" 47 2 := ab_csV_own (own := 19) (idx := 94) (n := 2) me_47 rfl q1185 q1186 q1187 q137 q1188 rfl ⟨by decide +kernel, by decide +kernel, by decide +kernel⟩
theorem gv_19_98_0 : ab_csV 19 98 "MovedSpan" 48 0 := ab_csV_own (own := 19) (idx := 98) (n := 0) me_48 rfl q1193 q1194 q1195 q137 q1196 rfl ⟨by decide +kernel, by decide +kernel, by decide +kernel⟩
theorem gv_19_103_0 : ab_csV 19 103 "MovedSpan" 51 1 := ab_csV_own (own := 19) (idx := 103) (n := 1) me_51 rfl q1205 q1206 q1207 q137 q1208 rfl ⟨by decide +kernel, by decide +kernel, by decide +kernel⟩
theorem gv_19_107_0 : ab_csV 19 107 "MovedSpan" 52 1 := ab_csV_own (own := 19) (idx := 107) (n := 1) me_52 rfl q1209 q1210 q1211 q137 q1212 rfl ⟨by decide +kernel, by decide +kernel, by decide +kernel⟩
theorem gv_19_111_0 : ab_csV 19 111 "MovedSpan" 53 0 := ab_csV_own (own := 19) (idx := 111) (n := 0) me_53 rfl q1213 q1214 q1215 q137 q1216 rfl ⟨by decide +kernel, by decide +kernel, by decide +kernel⟩
theorem gv_19_115_0 : ab_csV 19 115 "MovedSpan" 55 1 := ab_csV_own (own := 19) (idx := 115) (n := 1) me_55 rfl q1221 q1222 q1223 q137 q1224 rfl ⟨by decide +kernel, by decide +kernel, by decide +kernel⟩
theorem gv_19_123_0 : ab_csV 19 123 "MovedSpan" 59 0 := ab_csV_own (own := 19) (idx := 123) (n := 0) me_59 rfl q1243 q1244 q1245 q137 q1246 rfl ⟨by decide +kernel, by decide +kernel, by decide +kernel⟩
theorem gv_19_119_0 : ab_csV 19 119 "MovedSpan" 60 0 := ab_csV_own (own := 19) (idx := 119) (n := 0) me_60 rfl q1247 q1248 q1249 q137 q1250 rfl ⟨by decide +kernel, by decide +kernel, by decide +kernel⟩
theorem gv_19_127_0 : ab_csV 19 127 "MovedSpan" 61 0 := ab_csV_own (own := 19) (idx := 127) (n := 0) me_61 rfl q1251 q1252 q1253 q137 q1254 rfl ⟨by decide +kernel, by decide +kernel, by decide +kernel⟩
theorem gv_19_131_0 : ab_csV 19 131 "MovedSpan" 62 3 := ab_csV_own (own := 19) (idx := 131) (n := 3) me_62 rfl q1255 q1256 q1257 q137 q1258 rfl ⟨by decide +kernel, by decide +kernel, by decide +kernel⟩
theorem gv_19_135_0 : ab_csV 19 135 "MovedSpan" 67 2 := ab_csV_own (own := 19) (idx := 135) (n := 2) me_67 rfl q1275 q1276 q1277 q137 q1278 rfl ⟨by decide +kernel, by decide +kernel, by decide +kernel⟩
theorem gv_19_139_0 : ab_csV 19 139 "MovedSpan" 68 2 := ab_csV_own (own := 19) (idx := 139) (n := 2) me_68 rfl q1279 q1280 q1281 q137 q1282 rfl ⟨by decide +kernel, by decide +kernel, by decide +kernel⟩
theorem gv_19_143_0 : ab_csV 19 143 "MovedSpan" 69 4 := ab_csV_own (own := 19) (idx := 143) (n := 4) me_69 rfl q1283 q1284 q1285 q137 q1286 rfl ⟨by decide +kernel, by decide +kernel, by decide +kernel⟩
theorem gv_19_148_0 : ab_csV 19 148 "MovedSpan" 74 3 := ab_csV_own (own := 19) (idx := 148) (n := 3) me_74 rfl q1303 q1304 q1305 q137 q1306 rfl ⟨by decide +kernel, by decide +kernel, by decide +kernel⟩
theorem gv_19_152_0 : ab_csV 19 152 "MovedSpan" 75 3 := ab_csV_own (own := 19) (idx := 152) (n := 3) me_75 rfl q1308 q1309 q1310 q137 q1311 rfl ⟨by decide +kernel, by decide +kernel, by decide +kernel⟩
theorem gv_19_158_0 : ab_csV 19 158 "MovedSpan" 284 3 := ab_csV_W (own := 19) (idx := 158) (n := 3) me_284 rfl q1400 q1401 q1402 q137 q1403 rfl ⟨by decide +kernel, by decide +kernel, by decide +kernel⟩
theorem gv_19_163_0 : ab_csV 19 163 "MovedSpan" 76 3 := ab_csV_own (own := 19) (idx := 163) (n := 3) me_76 rfl q1454 q1455 q1456 q137 q1457 rfl ⟨by decide +kernel, by decide +kernel, by decide +kernel⟩
theorem gv_19_167_0 : ab_csV 19 167 "MovedSpan" 77 1 := ab_csV_own (own := 19) (idx := 167) (n := 1) me_77 rfl q1458 q1459 q1460 q137 q1461 rfl ⟨by decide +kernel, by decide +kernel, by decide +kernel⟩
theorem gv_19_171_0 : ab_csV 19 171 "MovedSpan" 78 1 := ab_csV_own (own := 19) (idx := 171) (n := 1) me_78 rfl q1462 q1463 q1464 q137 q1465 rfl ⟨by decide +kernel, by decide +kernel, by decide +kernel⟩
theorem gv_19_175_0 : ab_csV 19 175 "MovedSpan" 79 1 := ab_csV_own (own := 19) (idx := 175) (n := 1) me_79 rfl q1466 q1467 q1468 q137 q1469 rfl ⟨by decide +kernel, by decide +kernel, by decide +kernel⟩
theorem gv_19_17_8 : ab_csV 19 17 "MovedSpanModel" 116 5 := ab_csV_own (own := 19) (idx := 17) (n := 5) me_116 rfl q1608 q1609 q1610 q147 q1611 rfl ⟨by decide +kernel, by decide +kernel, by decide +kernel⟩
theorem gv_19_22_8 : ab_csV 19 22 "MovedSpanModel" 117 1 := ab_csV_own (own := 19) (idx := 22) (n := 1) me_117 rfl q1612 q1613 q1614 q147 q1615 rfl ⟨by decide +kernel, by decide +kernel, by decide +kernel⟩
theorem gv_19_26_8 : ab_csV 19 26 "MovedSpanModel" 146 1 := ab_csV_own (own := 19) (idx := 26) (n := 1) me_146 rfl q1728 q1729 q1730 q147 q1731 rfl ⟨by decide +kernel, by decide +kernel, by decide +kernel⟩
theorem gv_19_30_8 : ab_csV 19 30 "MovedSpanModel" 147 1 := ab_csV_own (own := 19) (idx := 30) (n := 1) me_147 rfl q1732 q1733 q1734 q147 q1735 rfl ⟨by decide +kernel, by decide +kernel, by decide +kernel⟩
theorem gv_19_35_8 : ab_csV 19 35 "MovedSpanModel" 149 2 := ab_csV_own (own := 19) (idx := 35) (n := 2) me_149 rfl q1741 q1742 q1743 q147 q1744 rfl ⟨by decide +kernel, by decide +kernel, by decide +kernel⟩
theorem gv_19_39_8 : ab_csV 19 39 "MovedSpanModel" 151 2 := ab_csV_own (own := 19) (idx := 39) (n := 2) me_151 rfl q1749 q1750 q1751 q147 q1752 rfl ⟨by decide +kernel, by decide +kernel, by decide +kernel⟩
theorem gv_19_43_8 : ab_csV 19 43 "MovedSpanModel" 158 2 := ab_csV_own (own := 19) (idx := 43) (n := 2) me_158 rfl q1779 q1780 q1781 q147 q1782 rfl ⟨by decide +kernel, by decide +kernel, by decide +kernel⟩
theorem gv_19_47_8 : ab_csV 19 47 "MovedSpanModel" 161 2 := ab_csV_own (own := 19) (idx := 47) (n := 2) me_161 rfl q1791 q1792 q1793 q147 q1794 rfl ⟨by decide +kernel, by decide +kernel, by decide +kernel⟩
theorem gv_19_51_8 : ab_csV 19 51 "MovedSpanModel" 162 1 := ab_csV_own (own := 19) (idx := 51) (n := 1) me_162 rfl q1796 q1797 q1798 q147 q1799 rfl ⟨by decide +kernel, by decide +kernel, by decide +kernel⟩
theorem gv_19_55_8 : ab_csV 19 55 "MovedSpanModel" 163 1 := ab_csV_own (own := 19) (idx := 55) (n := 1) me_163 rfl q1801 q1802 q1803 q147 q1804 rfl ⟨by decide +kernel, by decide +kernel, by decide +kernel⟩
theorem gv_19_59_8 : ab_csV 19 59 "MovedSpanModel" 165 1 := ab_csV_own (own := 19) (idx := 59) (n := 1) me_165 rfl q1810 q1811 q1812 q147 q1813 rfl ⟨by decide +kernel, by decide +kernel, by decide +kernel⟩
theorem gv_19_63_8 : ab_csV 19 63 "MovedSpanModel" 166 2 := ab_csV_own (own := 19) (idx := 63) (n := 2) me_166 rfl q1815 q1816 q1817 q147 q1818 rfl ⟨by decide +kernel, by decide +kernel, by decide +kernel⟩
theorem gv_19_67_8 : ab_csV 19 67 "MovedSpanModel" 172 1 := ab_csV_own (own := 19) (idx := 67) (n := 1) me_172 rfl q1846 q1847 q1848 q147 q1849 rfl ⟨by decide +kernel, by decide +kernel, by decide +kernel⟩
theorem gv_19_71_8 : ab_csV 19 71 "MovedSpanModel" 173 2 := ab_csV_own (own := 19) (idx := 71) (n := 2) me_173 rfl q1850 q1851 q1852 q147 q1853 rfl ⟨by decide +kernel, by decide +kernel, by decide +kernel⟩
theorem gv_19_75_8 : ab_csV 19 75 "MovedSpanModel" 176 2 := ab_csV_own (own := 19) (idx := 75) (n := 2) me_176 rfl q1864 q1865 q1866 q147 q1867 rfl ⟨by decide +kernel, by decide +kernel, by decide +kernel⟩
theorem gv_19_80_8 : ab_csV 19 80 "MovedSpanModel" 182 3 := ab_csV_own (own := 19) (idx := 80) (n := 3) me_182 rfl q1889 q1890 q1891 q147 q1892 rfl ⟨by decide +kernel, by decide +kernel, by decide +kernel⟩
theorem gv_19_85_8 : ab_csV 19 85 "MovedSpanModel" 184 3 := ab_csV_own (own := 19) (idx := 85) (n := 3) me_184 rfl q1897 q1898 q1899 q147 q1900 rfl ⟨by decide +kernel, by decide +kernel, by decide +kernel⟩
theorem gv_19_89_8 : ab_csV 19 89 "MovedSpanModel" 185 2 := ab_csV_own (own := 19) (idx := 89) (n := 2) me_185 rfl q1904 q1905 q1906 q147 q1907 rfl ⟨by decide +kernel, by decide +kernel, by decide +kernel⟩
theorem gv_19_93_8 : ab_csV 19 93 "MovedSpanModel" 187 2 := ab_csV_own (own := 19) (idx := 93) (n := 2) me_187 rfl q1913 q1914 q1915 q147 q1916 rfl ⟨by decide +kernel, by decide +kernel, by decide +kernel⟩
theorem gv_19_97_8 : ab_csV 19 97 "MovedSpanModel" 189 2 := ab_csV_own (own := 19) (idx := 97) (n := 2) me_189 rfl q1921 q1922 q1923 q147 q1924 rfl ⟨by decide +kernel, by decide +kernel, by decide +kernel⟩
theorem gv_19_102_8 : ab_csV 19 102 "MovedSpanModel" 190 0 := ab_csV_own (own := 19) (idx := 102) (n := 0) me_190 rfl q1925 q1926 q1927 q147 q1928 rfl ⟨by decide +kernel, by decide +kernel, by decide +kernel⟩
theorem gv_19_106_8 : ab_csV 19 106 "MovedSpanModel" 194 1 := ab_csV_own (own := 19) (idx := 106) (n := 1) me_194 rfl q1941 q1942 q1943 q147 q1944 rfl ⟨by decide +kernel, by decide +kernel, by decide +kernel⟩
theorem gv_19_110_8 : ab_csV 19 110 "MovedSpanModel" 195 1 := ab_csV_own (own := 19) (idx := 110) (n := 1) me_195 rfl q1945 q1946 q1947 q147 q1948 rfl ⟨by decide +kernel, by decide +kernel, by decide +kernel⟩
theorem gv_19_114_8 : ab_csV 19 114 "MovedSpanModel" 196 0 := ab_csV_own (own := 19) (idx := 114) (n := 0) me_196 rfl q1949 q1950 q1951 q147 q1952 rfl ⟨by decide +kernel, by decide +kernel, by decide +kernel⟩
theorem gv_19_118_8 : ab_csV 19 118 "MovedSpanModel" 198 1 := ab_csV_own (own := 19) (idx := 118) (n := 1) me_198 rfl q1957 q1958 q1959 q147 q1960 rfl ⟨by decide +kernel, by decide +kernel, by decide +kernel⟩
theorem gv_19_126_8 : ab_csV 19 126 "MovedSpanModel" 206 0 := ab_csV_own (own := 19) (idx := 126) (n := 0) me_206 rfl q1989 q1990 q1991 q147 q1992 rfl ⟨by decide +kernel, by decide +kernel, by decide +kernel⟩
theorem gv_19_122_8 : ab_csV 19 122 "MovedSpanModel" 207 0 := ab_csV_own (own := 19) (idx := 122) (n := 0) me_207 rfl q1993 q1994 q1995 q147 q1996 rfl ⟨by decide +kernel, by decide +kernel, by decide +kernel⟩
theorem gv_19_130_8 : ab_csV 19 130 "MovedSpanModel" 208 0 := ab_csV_own (own := 19) (idx := 130) (n := 0) me_208 rfl q1997 q1998 q1999 q147 q2000 rfl ⟨by decide +kernel, by decide +kernel, by decide +kernel⟩
theorem gv_19_134_8 : ab_csV 19 134 "MovedSpanModel" 209 3 := ab_csV_own (own := 19) (idx := 134) (n := 3) me_209 rfl q2001 q2002 q2003 q147 q2004 rfl ⟨by decide +kernel, by decide +kernel, by decide +kernel⟩
theorem gv_19_138_8 : ab_csV 19 138 "MovedSpanModel" 213 2 := ab_csV_own (own := 19) (idx := 138) (n := 2) me_213 rfl q2017 q2018 q2019 q147 q2020 rfl ⟨by decide +kernel, by decide +kernel, by decide +kernel⟩
theorem gv_19_142_8 : ab_csV 19 142 "MovedSpanModel" 215 2 := ab_csV_own (own := 19) (idx := 142) (n := 2) me_215 rfl q2024 q2025 q2026 q147 q2027 rfl ⟨by decide +kernel, by decide +kernel, by decide +kernel⟩
theorem gv_19_147_8 : ab_csV 19 147 "MovedSpanModel" 216 4 := ab_csV_own (own := 19) (idx := 147) (n := 4) me_216 rfl q2028 q2029 q2030 q147 q2031 rfl ⟨by decide +kernel, by decide +kernel, by decide +kernel⟩
theorem gv_19_151_8 : ab_csV 19 151 "MovedSpanModel" 221 3 := ab_csV_own (own := 19) (idx := 151) (n := 3) me_221 rfl q2046 q2047 q2048 q147 q2049 rfl ⟨by decide +kernel, by decide +kernel, by decide +kernel⟩
theorem gv_19_155_8 : ab_csV 19 155 "MovedSpanModel" 222 3 := ab_csV_own (own := 19) (idx := 155) (n := 3) me_222 rfl q2050 q2051 q2052 q147 q2053 rfl ⟨by decide +kernel, by decide +kernel, by decide +kernel⟩
theorem gv_19_162_8 : ab_csV 19 162 "MovedSpanModel" 223 3 := ab_csV_own (own := 19) (idx := 162) (n := 3) me_223 rfl q2054 q2055 q2056 q147 q2057 rfl ⟨by decide +kernel, by decide +kernel, by decide +kernel⟩
theorem gv_19_166_8 : ab_csV 19 166 "MovedSpanModel" 225 3 := ab_csV_own (own := 19) (idx := 166) (n := 3) me_225 rfl q2062 q2063 q2064 q147 q2065 rfl ⟨by decide +kernel, by decide +kernel, by decide +kernel⟩
theorem gv_19_170_8 : ab_csV 19 170 "MovedSpanModel" 226 1 := ab_csV_own (own := 19) (idx := 170) (n := 1) me_226 rfl q2066 q2067 q2068 q147 q2069 rfl ⟨by decide +kernel, by decide +kernel, by decide +kernel⟩
theorem gv_19_174_8 : ab_csV 19 174 "MovedSpanModel" 227 1 := ab_csV_own (own := 19) (idx := 174) (n := 1) me_227 rfl q2070 q2071 q2072 q147 q2073 rfl ⟨by decide +kernel, by decide +kernel, by decide +kernel⟩
theorem gv_19_178_8 : ab_csV 19 178 "MovedSpanModel" 228 1 := ab_csV_own (own := 19) (idx := 178) (n := 1) me_228 rfl q2074 q2075 q2076 q147 q2077 rfl ⟨by decide +kernel, by decide +kernel, by decide +kernel⟩
theorem gv_6_75_0 : ab_csV 6 75 "MovedSpan" 11 3 := ab_csV_nest (own := 6) (idx := 75) (n := 3) me_11 rfl q892 q894 qs31 q137 q895 ⟨by decide +kernel, by decide +kernel, by decide +kernel⟩
theorem gv_6_79_0 : ab_csV 6 79 "MovedSpan" 12 6 := ab_csV_nest (own := 6) (idx := 79) (n := 6) me_12 rfl q912 q914 qs32 q137 q915 ⟨by decide +kernel, by decide +kernel, by decide +kernel⟩
theorem ab_lv_all : ∀ e ∈ ab_lvT, ∃ na, ab_ln e.1 e.2.1 = some na ∧ ab_csV e.1 e.2.1 (ab_nm e.2.2.1) e.2.2.2 na := List.forall_mem_cons.mpr ⟨⟨_, ab_ln_0_122, gv_0_122_6⟩, List.forall_mem_cons.mpr ⟨⟨_, ab_ln_0_128, gv_0_128_0⟩, List.forall_mem_cons.mpr ⟨⟨_, ab_ln_0_139, gv_0_139_9⟩, List.forall_mem_cons.mpr ⟨⟨_, ab_ln_0_165, gv_0_165_6⟩, List.forall_mem_cons.mpr ⟨⟨_, ab_ln_0_169, gv_0_169_0⟩, List.forall_mem_cons.mpr ⟨⟨_, ab_ln_0_195, gv_0_195_6⟩, List.forall_mem_cons.mpr ⟨⟨_, ab_ln_0_31, gv_0_31_2⟩, List.forall_mem_cons.mpr ⟨⟨_, ab_ln_0_31, gv_0_31_3⟩, List.forall_mem_cons.mpr ⟨⟨_, ab_ln_0_31, gv_0_31_4⟩, List.forall_mem_cons.mpr ⟨⟨_, ab_ln_0_31, gv_0_31_5⟩, List.forall_mem_cons.mpr ⟨⟨_, ab_ln_0_7, gv_0_7_2⟩, List.forall_mem_cons.mpr ⟨⟨_, ab_ln_0_7, gv_0_7_3⟩, List.forall_mem_cons.mpr ⟨⟨_, ab_ln_0_7, gv_0_7_4⟩, List.forall_mem_cons.mpr ⟨⟨_, ab_ln_0_7, gv_0_7_5⟩, List.forall_mem_cons.mpr ⟨⟨_, ab_ln_0_13, gv_0_13_2⟩, List.forall_mem_cons.mpr ⟨⟨_, ab_ln_0_13, gv_0_13_3⟩, List.forall_mem_cons.mpr ⟨⟨_, ab_ln_0_13, gv_0_13_4⟩, List.forall_mem_cons.mpr ⟨⟨_, ab_ln_0_13, gv_0_13_5⟩, List.forall_mem_cons.mpr ⟨⟨_, ab_ln_0_21, gv_0_21_1⟩, List.forall_mem_cons.mpr ⟨⟨_, ab_ln_0_27, gv_0_27_1⟩, List.forall_mem_cons.mpr ⟨⟨_, ab_ln_0_211, gv_0_211_0⟩, List.forall_mem_cons.mpr ⟨⟨_, ab_ln_0_202, gv_0_202_6⟩, List.forall_mem_cons.mpr ⟨⟨_, ab_ln_0_214, gv_0_214_0⟩, List.forall_mem_cons.mpr ⟨⟨_, ab_ln_0_235, gv_0_235_6⟩, List.forall_mem_cons.mpr ⟨⟨_, ab_ln_0_254, gv_0_254_0⟩, List.forall_mem_cons.mpr ⟨⟨_, ab_ln_0_257, gv_0_257_0⟩, List.forall_mem_cons.mpr ⟨⟨_, ab_ln_0_239, gv_0_239_7⟩, List.forall_mem_cons.mpr ⟨⟨_, ab_ln_0_241, gv_0_241_7⟩, List.forall_mem_cons.mpr ⟨⟨_, ab_ln_0_245, gv_0_245_6⟩, List.forall_mem_cons.mpr ⟨⟨_, ab_ln_0_249, gv_0_249_6⟩, List.forall_mem_cons.mpr ⟨⟨_, ab_ln_0_272, gv_0_272_0⟩, List.forall_mem_cons.mpr ⟨⟨_, ab_ln_0_267, gv_0_267_0⟩, List.forall_mem_cons.mpr ⟨⟨_, ab_ln_0_303, gv_0_303_0⟩, List.forall_mem_cons.mpr ⟨⟨_, ab_ln_0_293, gv_0_293_1⟩, List.forall_mem_cons.mpr ⟨⟨_, ab_ln_0_306, gv_0_306_0⟩, List.forall_mem_cons.mpr ⟨⟨_, ab_ln_0_297, gv_0_297_0⟩, List.forall_mem_cons.mpr ⟨⟨_, ab_ln_0_300, gv_0_300_0⟩, List.forall_mem_cons.mpr ⟨⟨_, ab_ln_0_309, gv_0_309_0⟩, List.forall_mem_cons.mpr ⟨⟨_, ab_ln_0_290, gv_0_290_0⟩, List.forall_mem_cons.mpr ⟨⟨_, ab_ln_0_280, gv_0_280_0⟩, List.forall_mem_cons.mpr ⟨⟨_, ab_ln_0_283, gv_0_283_0⟩, List.forall_mem_cons.mpr ⟨⟨_, ab_ln_0_286, gv_0_286_0⟩, List.forall_mem_cons.mpr ⟨⟨_, ab_ln_0_316, gv_0_316_0⟩, List.forall_mem_cons.mpr ⟨⟨_, ab_ln_0_313, gv_0_313_0⟩, List.forall_mem_cons.mpr ⟨⟨_, ab_ln_0_325, gv_0_325_0⟩, List.forall_mem_cons.mpr ⟨⟨_, ab_ln_0_331, gv_0_331_0⟩, List.forall_mem_cons.mpr ⟨⟨_, ab_ln_0_337, gv_0_337_0⟩, List.forall_mem_cons.mpr ⟨⟨_, ab_ln_0_340, gv_0_340_0⟩, List.forall_mem_cons.mpr ⟨⟨_, ab_ln_0_351, gv_0_351_0⟩, List.forall_mem_cons.mpr ⟨⟨_, ab_ln_0_348, gv_0_348_0⟩, List.forall_mem_cons.mpr ⟨⟨_, ab_ln_0_354, gv_0_354_0⟩, List.forall_mem_cons.mpr ⟨⟨_, ab_ln_0_380, gv_0_380_0⟩, List.forall_mem_cons.mpr ⟨⟨_, ab_ln_0_360, gv_0_360_0⟩, List.forall_mem_cons.mpr ⟨⟨_, ab_ln_0_357, gv_0_357_0⟩, List.forall_mem_cons.mpr ⟨⟨_, ab_ln_0_369, gv_0_369_1⟩, List.forall_mem_cons.mpr ⟨⟨_, ab_ln_0_390, gv_0_390_0⟩, List.forall_mem_cons.mpr ⟨⟨_, ab_ln_0_393, gv_0_393_0⟩, List.forall_mem_cons.mpr ⟨⟨_, ab_ln_0_386, gv_0_386_0⟩, List.forall_mem_cons.mpr ⟨⟨_, ab_ln_0_383, gv_0_383_0⟩, List.forall_mem_cons.mpr ⟨⟨_, ab_ln_0_416, gv_0_416_0⟩, List.forall_mem_cons.mpr ⟨⟨_, ab_ln_0_407, gv_0_407_0⟩, List.forall_mem_cons.mpr ⟨⟨_, ab_ln_0_429, gv_0_429_7⟩, List.forall_mem_cons.mpr ⟨⟨_, ab_ln_0_431, gv_0_431_7⟩, List.forall_mem_cons.mpr ⟨⟨_, ab_ln_0_442, gv_0_442_0⟩, List.forall_mem_cons.mpr ⟨⟨_, ab_ln_1_41, gv_1_41_1⟩, List.forall_mem_cons.mpr ⟨⟨_, ab_ln_1_45, gv_1_45_10⟩, List.forall_mem_cons.mpr ⟨⟨_, ab_ln_1_45, gv_1_45_14⟩, List.forall_mem_cons.mpr ⟨⟨_, ab_ln_1_45, gv_1_45_15⟩, List.forall_mem_cons.mpr ⟨⟨_, ab_ln_6_50, gv_6_50_6⟩, List.forall_mem_cons.mpr ⟨⟨_, ab_ln_6_71, gv_6_71_6⟩, List.forall_mem_cons.mpr ⟨⟨_, ab_ln_6_88, gv_6_88_6⟩, List.forall_mem_cons.mpr ⟨⟨_, ab_ln_6_117, gv_6_117_6⟩, List.forall_mem_cons.mpr ⟨⟨_, ab_ln_8_150, gv_8_150_8⟩, List.forall_mem_cons.mpr ⟨⟨_, ab_ln_8_119, gv_8_119_8⟩, List.forall_mem_cons.mpr ⟨⟨_, ab_ln_8_130, gv_8_130_8⟩, List.forall_mem_cons.mpr ⟨⟨_, ab_ln_8_176, gv_8_176_8⟩, List.forall_mem_cons.mpr ⟨⟨_, ab_ln_8_147, gv_8_147_8⟩, List.forall_mem_cons.mpr ⟨⟨_, ab_ln_8_153, gv_8_153_8⟩, List.forall_mem_cons.mpr ⟨⟨_, ab_ln_8_194, gv_8_194_8⟩, List.forall_mem_cons.mpr ⟨⟨_, ab_ln_8_213, gv_8_213_8⟩, List.forall_mem_cons.mpr ⟨⟨_, ab_ln_8_216, gv_8_216_8⟩, List.forall_mem_cons.mpr ⟨⟨_, ab_ln_8_204, gv_8_204_8⟩, List.forall_mem_cons.mpr ⟨⟨_, ab_ln_8_207, gv_8_207_8⟩, List.forall_mem_cons.mpr ⟨⟨_, ab_ln_8_198, gv_8_198_8⟩, List.forall_mem_cons.mpr ⟨⟨_, ab_ln_8_201, gv_8_201_8⟩, List.forall_mem_cons.mpr ⟨⟨_, ab_ln_8_210, gv_8_210_8⟩, List.forall_mem_cons.mpr ⟨⟨_, ab_ln_8_188, gv_8_188_8⟩, List.forall_mem_cons.mpr ⟨⟨_, ab_ln_8_191, gv_8_191_8⟩, List.forall_mem_cons.mpr ⟨⟨_, ab_ln_8_185, gv_8_185_8⟩, List.forall_mem_cons.mpr ⟨⟨_, ab_ln_8_170, gv_8_170_8⟩, List.forall_mem_cons.mpr ⟨⟨_, ab_ln_8_164, gv_8_164_8⟩, List.forall_mem_cons.mpr ⟨⟨_, ab_ln_8_173, gv_8_173_8⟩, List.forall_mem_cons.mpr ⟨⟨_, ab_ln_8_182, gv_8_182_8⟩, List.forall_mem_cons.mpr ⟨⟨_, ab_ln_8_179, gv_8_179_8⟩, List.forall_mem_cons.mpr ⟨⟨_, ab_ln_8_167, gv_8_167_8⟩, List.forall_mem_cons.mpr ⟨⟨_, ab_ln_8_222, gv_8_222_8⟩, List.forall_mem_cons.mpr ⟨⟨_, ab_ln_8_235, gv_8_235_8⟩, List.forall_mem_cons.mpr ⟨⟨_, ab_ln_8_245, gv_8_245_8⟩, List.forall_mem_cons.mpr ⟨⟨_, ab_ln_8_264, gv_8_264_8⟩, List.forall_mem_cons.mpr ⟨⟨_, ab_ln_8_251, gv_8_251_8⟩, List.forall_mem_cons.mpr ⟨⟨_, ab_ln_8_254, gv_8_254_8⟩, List.forall_mem_cons.mpr ⟨⟨_, ab_ln_8_238, gv_8_238_8⟩, List.forall_mem_cons.mpr ⟨⟨_, ab_ln_8_241, gv_8_241_8⟩, List.forall_mem_cons.mpr ⟨⟨_, ab_ln_8_268, gv_8_268_8⟩, List.forall_mem_cons.mpr ⟨⟨_, ab_ln_8_271, gv_8_271_8⟩, List.forall_mem_cons.mpr ⟨⟨_, ab_ln_8_280, gv_8_280_8⟩, List.forall_mem_cons.mpr ⟨⟨_, ab_ln_8_309, gv_8_309_8⟩, List.forall_mem_cons.mpr ⟨⟨_, ab_ln_8_312, gv_8_312_8⟩, List.forall_mem_cons.mpr ⟨⟨_, ab_ln_8_300, gv_8_300_8⟩, List.forall_mem_cons.mpr ⟨⟨_, ab_ln_8_304, gv_8_304_8⟩, List.forall_mem_cons.mpr ⟨⟨_, ab_ln_8_315, gv_8_315_8⟩, List.forall_mem_cons.mpr ⟨⟨_, ab_ln_8_327, gv_8_327_8⟩, List.forall_mem_cons.mpr ⟨⟨_, ab_ln_8_322, gv_8_322_8⟩, List.forall_mem_cons.mpr ⟨⟨_, ab_ln_8_339, gv_8_339_8⟩, List.forall_mem_cons.mpr ⟨⟨_, ab_ln_8_342, gv_8_342_8⟩, List.forall_mem_cons.mpr ⟨⟨_, ab_ln_8_333, gv_8_333_8⟩, List.forall_mem_cons.mpr ⟨⟨_, ab_ln_8_336, gv_8_336_8⟩, List.forall_mem_cons.mpr ⟨⟨_, ab_ln_8_330, gv_8_330_8⟩, List.forall_mem_cons.mpr ⟨⟨_, ab_ln_8_345, gv_8_345_8⟩, List.forall_mem_cons.mpr ⟨⟨_, ab_ln_8_356, gv_8_356_8⟩, List.forall_mem_cons.mpr ⟨⟨_, ab_ln_8_359, gv_8_359_8⟩, List.forall_mem_cons.mpr ⟨⟨_, ab_ln_8_369, gv_8_369_8⟩, List.forall_mem_cons.mpr ⟨⟨_, ab_ln_8_362, gv_8_362_8⟩, List.forall_mem_cons.mpr ⟨⟨_, ab_ln_8_365, gv_8_365_8⟩, List.forall_mem_cons.mpr ⟨⟨_, ab_ln_8_384, gv_8_384_8⟩, List.forall_mem_cons.mpr ⟨⟨_, ab_ln_8_402, gv_8_402_8⟩, List.forall_mem_cons.mpr ⟨⟨_, ab_ln_8_399, gv_8_399_8⟩, List.forall_mem_cons.mpr ⟨⟨_, ab_ln_8_378, gv_8_378_8⟩, List.forall_mem_cons.mpr ⟨⟨_, ab_ln_8_375, gv_8_375_8⟩, List.forall_mem_cons.mpr ⟨⟨_, ab_ln_8_381, gv_8_381_8⟩, List.forall_mem_cons.mpr ⟨⟨_, ab_ln_8_372, gv_8_372_8⟩, List.forall_mem_cons.mpr ⟨⟨_, ab_ln_8_390, gv_8_390_8⟩, List.forall_mem_cons.mpr ⟨⟨_, ab_ln_8_408, gv_8_408_8⟩, List.forall_mem_cons.mpr ⟨⟨_, ab_ln_8_411, gv_8_411_8⟩, List.forall_mem_cons.mpr ⟨⟨_, ab_ln_8_405, gv_8_405_8⟩, List.forall_mem_cons.mpr ⟨⟨_, ab_ln_8_425, gv_8_425_8⟩, List.forall_mem_cons.mpr ⟨⟨_, ab_ln_8_417, gv_8_417_8⟩, List.forall_mem_cons.mpr ⟨⟨_, ab_ln_8_438, gv_8_438_8⟩, List.forall_mem_cons.mpr ⟨⟨_, ab_ln_8_441, gv_8_441_8⟩, List.forall_mem_cons.mpr ⟨⟨_, ab_ln_9_90, gv_9_90_9⟩, List.forall_mem_cons.mpr ⟨⟨_, ab_ln_9_33, gv_9_33_9⟩, List.forall_mem_cons.mpr ⟨⟨_, ab_ln_9_58, gv_9_58_9⟩, List.forall_mem_cons.mpr ⟨⟨_, ab_ln_9_62, gv_9_62_9⟩, List.forall_mem_cons.mpr ⟨⟨_, ab_ln_9_102, gv_9_102_9⟩, List.forall_mem_cons.mpr ⟨⟨_, ab_ln_9_97, gv_9_97_9⟩, List.forall_mem_cons.mpr ⟨⟨_, ab_ln_9_86, gv_9_86_9⟩, List.forall_mem_cons.mpr ⟨⟨_, ab_ln_9_93, gv_9_93_9⟩, List.forall_mem_cons.mpr ⟨⟨_, ab_ln_9_106, gv_9_106_9⟩, List.forall_mem_cons.mpr ⟨⟨_, ab_ln_9_117, gv_9_117_9⟩, List.forall_mem_cons.mpr ⟨⟨_, ab_ln_9_123, gv_9_123_9⟩, List.forall_mem_cons.mpr ⟨⟨_, ab_ln_9_120, gv_9_120_9⟩, List.forall_mem_cons.mpr ⟨⟨_, ab_ln_9_131, gv_9_131_9⟩, List.forall_mem_cons.mpr ⟨⟨_, ab_ln_9_135, gv_9_135_9⟩, List.forall_mem_cons.mpr ⟨⟨_, ab_ln_9_169, gv_9_169_9⟩, List.forall_mem_cons.mpr ⟨⟨_, ab_ln_9_178, gv_9_178_9⟩, List.forall_mem_cons.mpr ⟨⟨_, ab_ln_9_187, gv_9_187_9⟩, List.forall_mem_cons.mpr ⟨⟨_, ab_ln_9_139, gv_9_139_9⟩, List.forall_mem_cons.mpr ⟨⟨_, ab_ln_9_195, gv_9_195_9⟩, List.forall_mem_cons.mpr ⟨⟨_, ab_ln_9_207, gv_9_207_9⟩, List.forall_mem_cons.mpr ⟨⟨_, ab_ln_9_217, gv_9_217_9⟩, List.forall_mem_cons.mpr ⟨⟨_, ab_ln_9_224, gv_9_224_9⟩, List.forall_mem_cons.mpr ⟨⟨_, ab_ln_9_232, gv_9_232_9⟩, List.forall_mem_cons.mpr ⟨⟨_, ab_ln_9_235, gv_9_235_9⟩, List.forall_mem_cons.mpr ⟨⟨_, ab_ln_9_244, gv_9_244_9⟩, List.forall_mem_cons.mpr ⟨⟨_, ab_ln_9_250, gv_9_250_9⟩, List.forall_mem_cons.mpr ⟨⟨_, ab_ln_9_261, gv_9_261_9⟩, List.forall_mem_cons.mpr ⟨⟨_, ab_ln_9_143, gv_9_143_9⟩, List.forall_mem_cons.mpr ⟨⟨_, ab_ln_10_13, gv_10_13_10⟩, List.forall_mem_cons.mpr ⟨⟨_, ab_ln_10_13, gv_10_13_14⟩, List.forall_mem_cons.mpr ⟨⟨_, ab_ln_10_13, gv_10_13_15⟩, List.forall_mem_cons.mpr ⟨⟨_, ab_ln_13_22, gv_13_22_11⟩, List.forall_mem_cons.mpr ⟨⟨_, ab_ln_13_22, gv_13_22_12⟩, List.forall_mem_cons.mpr ⟨⟨_, ab_ln_13_22, gv_13_22_13⟩, List.forall_mem_cons.mpr ⟨⟨_, ab_ln_14_20, gv_14_20_11⟩, List.forall_mem_cons.mpr ⟨⟨_, ab_ln_14_20, gv_14_20_12⟩, List.forall_mem_cons.mpr ⟨⟨_, ab_ln_14_20, gv_14_20_13⟩, List.forall_mem_cons.mpr ⟨⟨_, ab_ln_15_20, gv_15_20_10⟩, List.forall_mem_cons.mpr ⟨⟨_, ab_ln_15_20, gv_15_20_14⟩, List.forall_mem_cons.mpr ⟨⟨_, ab_ln_15_20, gv_15_20_15⟩, List.forall_mem_cons.mpr ⟨⟨_, ab_ln_19_13, gv_19_13_0⟩, List.forall_mem_cons.mpr ⟨⟨_, ab_ln_19_18, gv_19_18_0⟩, List.forall_mem_cons.mpr ⟨⟨_, ab_ln_19_23, gv_19_23_0⟩, List.forall_mem_cons.mpr ⟨⟨_, ab_ln_19_27, gv_19_27_0⟩, List.forall_mem_cons.mpr ⟨⟨_, ab_ln_19_31, gv_19_31_0⟩, List.forall_mem_cons.mpr ⟨⟨_, ab_ln_19_36, gv_19_36_0⟩, List.forall_mem_cons.mpr ⟨⟨_, ab_ln_19_40, gv_19_40_0⟩, List.forall_mem_cons.mpr ⟨⟨_, ab_ln_19_44, gv_19_44_0⟩, List.forall_mem_cons.mpr ⟨⟨_, ab_ln_19_48, gv_19_48_0⟩, List.forall_mem_cons.mpr ⟨⟨_, ab_ln_19_52, gv_19_52_0⟩, List.forall_mem_cons.mpr ⟨⟨_, ab_ln_19_56, gv_19_56_0⟩, List.forall_mem_cons.mpr ⟨⟨_, ab_ln_19_60, gv_19_60_0⟩, List.forall_mem_cons.mpr ⟨⟨_, ab_ln_19_64, gv_19_64_0⟩, List.forall_mem_cons.mpr ⟨⟨_, ab_ln_19_68, gv_19_68_0⟩, List.forall_mem_cons.mpr ⟨⟨_, ab_ln_19_72, gv_19_72_0⟩, List.forall_mem_cons.mpr ⟨⟨_, ab_ln_19_76, gv_19_76_0⟩, List.forall_mem_cons.mpr ⟨⟨_, ab_ln_19_81, gv_19_81_0⟩, List.forall_mem_cons.mpr ⟨⟨_, ab_ln_19_86, gv_19_86_0⟩, List.forall_mem_cons.mpr ⟨⟨_, ab_ln_19_90, gv_19_90_0⟩, List.forall_mem_cons.mpr ⟨⟨_, ab_ln_19_94, gv_19_94_0⟩, List.forall_mem_cons.mpr ⟨⟨_, ab_ln_19_98, gv_19_98_0⟩, List.forall_mem_cons.mpr ⟨⟨_, ab_ln_19_103, gv_19_103_0⟩, List.forall_mem_cons.mpr ⟨⟨_, ab_ln_19_107, gv_19_107_0⟩, List.forall_mem_cons.mpr ⟨⟨_, ab_ln_19_111, gv_19_111_0⟩, List.forall_mem_cons.mpr ⟨⟨_, ab_ln_19_115, gv_19_115_0⟩, List.forall_mem_cons.mpr ⟨⟨_, ab_ln_19_123, gv_19_123_0⟩, List.forall_mem_cons.mpr ⟨⟨_, ab_ln_19_119, gv_19_119_0⟩, List.forall_mem_cons.mpr ⟨⟨_, ab_ln_19_127, gv_19_127_0⟩, List.forall_mem_cons.mpr ⟨⟨_, ab_ln_19_131, gv_19_131_0⟩, List.forall_mem_cons.mpr ⟨⟨_, ab_ln_19_135, gv_19_135_0⟩, List.forall_mem_cons.mpr ⟨⟨_, ab_ln_19_139, gv_19_139_0⟩, List.forall_mem_cons.mpr ⟨⟨_, ab_ln_19_143, gv_19_143_0⟩, List.forall_mem_cons.mpr ⟨⟨_, ab_ln_19_148, gv_19_148_0⟩, List.forall_mem_cons.mpr ⟨⟨_, ab_ln_19_152, gv_19_152_0⟩, List.forall_mem_cons.mpr ⟨⟨_, ab_ln_19_158, gv_19_158_0⟩, List.forall_mem_cons.mpr ⟨⟨_, ab_ln_19_163, gv_19_163_0⟩, List.forall_mem_cons.mpr ⟨⟨_, ab_ln_19_167, gv_19_167_0⟩, List.forall_mem_cons.mpr ⟨⟨_, ab_ln_19_171, gv_19_171_0⟩, List.forall_mem_cons.mpr ⟨⟨_, ab_ln_19_175, gv_19_175_0⟩, List.forall_mem_cons.mpr ⟨⟨_, ab_ln_19_17, gv_19_17_8⟩, List.forall_mem_cons.mpr ⟨⟨_, ab_ln_19_22, gv_19_22_8⟩, List.forall_mem_cons.mpr ⟨⟨_, ab_ln_19_26, gv_19_26_8⟩, List.forall_mem_cons.mpr ⟨⟨_, ab_ln_19_30, gv_19_30_8⟩, List.forall_mem_cons.mpr ⟨⟨_, ab_ln_19_35, gv_19_35_8⟩, List.forall_mem_cons.mpr ⟨⟨_, ab_ln_19_39, gv_19_39_8⟩, List.forall_mem_cons.mpr ⟨⟨_, ab_ln_19_43, gv_19_43_8⟩, List.forall_mem_cons.mpr ⟨⟨_, ab_ln_19_47, gv_19_47_8⟩, List.forall_mem_cons.mpr ⟨⟨_, ab_ln_19_51, gv_19_51_8⟩, List.forall_mem_cons.mpr ⟨⟨_, ab_ln_19_55, gv_19_55_8⟩, List.forall_mem_cons.mpr ⟨⟨_, ab_ln_19_59, gv_19_59_8⟩, List.forall_mem_cons.mpr ⟨⟨_, ab_ln_19_63, gv_19_63_8⟩, List.forall_mem_cons.mpr ⟨⟨_, ab_ln_19_67, gv_19_67_8⟩, List.forall_mem_cons.mpr ⟨⟨_, ab_ln_19_71, gv_19_71_8⟩, List.forall_mem_cons.mpr ⟨⟨_, ab_ln_19_75, gv_19_75_8⟩, List.forall_mem_cons.mpr ⟨⟨_, ab_ln_19_80, gv_19_80_8⟩, List.forall_mem_cons.mpr ⟨⟨_, ab_ln_19_85, gv_19_85_8⟩, List.forall_mem_cons.mpr ⟨⟨_, ab_ln_19_89, gv_19_89_8⟩, List.forall_mem_cons.mpr ⟨⟨_, ab_ln_19_93, gv_19_93_8⟩, List.forall_mem_cons.mpr ⟨⟨_, ab_ln_19_97, gv_19_97_8⟩, List.forall_mem_cons.mpr ⟨⟨_, ab_ln_19_102, gv_19_102_8⟩, List.forall_mem_cons.mpr ⟨⟨_, ab_ln_19_106, gv_19_106_8⟩, List.forall_mem_cons.mpr ⟨⟨_, ab_ln_19_110, gv_19_110_8⟩, List.forall_mem_cons.mpr ⟨⟨_, ab_ln_19_114, gv_19_114_8⟩, List.forall_mem_cons.mpr ⟨⟨_, ab_ln_19_118, gv_19_118_8⟩, List.forall_mem_cons.mpr ⟨⟨_, ab_ln_19_126, gv_19_126_8⟩, List.forall_mem_cons.mpr ⟨⟨_, ab_ln_19_122, gv_19_122_8⟩, List.forall_mem_cons.mpr ⟨⟨_, ab_ln_19_130, gv_19_130_8⟩, List.forall_mem_cons.mpr ⟨⟨_, ab_ln_19_134, gv_19_134_8⟩, List.forall_mem_cons.mpr ⟨⟨_, ab_ln_19_138, gv_19_138_8⟩, List.forall_mem_cons.mpr ⟨⟨_, ab_ln_19_142, gv_19_142_8⟩, List.forall_mem_cons.mpr ⟨⟨_, ab_ln_19_147, gv_19_147_8⟩, List.forall_mem_cons.mpr ⟨⟨_, ab_ln_19_151, gv_19_151_8⟩, List.forall_mem_cons.mpr ⟨⟨_, ab_ln_19_155, gv_19_155_8⟩, List.forall_mem_cons.mpr ⟨⟨_, ab_ln_19_162, gv_19_162_8⟩, List.forall_mem_cons.mpr ⟨⟨_, ab_ln_19_166, gv_19_166_8⟩, List.forall_mem_cons.mpr ⟨⟨_, ab_ln_19_170, gv_19_170_8⟩, List.forall_mem_cons.mpr ⟨⟨_, ab_ln_19_174, gv_19_174_8⟩, List.forall_mem_cons.mpr ⟨⟨_, ab_ln_19_178, gv_19_178_8⟩, List.forall_mem_cons.mpr ⟨⟨_, ab_ln_6_75, gv_6_75_0⟩, List.forall_mem_cons.mpr ⟨⟨_, ab_ln_6_79, gv_6_79_0⟩, fun _ h => absurd h List.not_mem_nil⟩⟩⟩⟩⟩⟩⟩⟩⟩⟩⟩⟩⟩⟩⟩⟩⟩⟩⟩⟩⟩⟩⟩⟩⟩⟩⟩⟩⟩⟩⟩⟩⟩⟩⟩⟩⟩⟩⟩⟩⟩⟩⟩⟩⟩⟩⟩⟩⟩⟩⟩⟩⟩⟩⟩⟩⟩⟩⟩⟩⟩⟩⟩⟩⟩⟩⟩⟩⟩⟩⟩⟩⟩⟩⟩⟩⟩⟩⟩⟩⟩⟩⟩⟩⟩⟩⟩⟩⟩⟩⟩⟩⟩⟩⟩⟩⟩⟩⟩⟩⟩⟩⟩⟩⟩⟩⟩⟩⟩⟩⟩⟩⟩⟩⟩⟩⟩⟩⟩⟩⟩⟩⟩⟩⟩⟩⟩⟩⟩⟩⟩⟩⟩⟩⟩⟩⟩⟩⟩⟩⟩⟩⟩⟩⟩⟩⟩⟩⟩⟩⟩⟩⟩⟩⟩⟩⟩⟩⟩⟩⟩⟩⟩⟩⟩⟩⟩⟩⟩⟩⟩⟩⟩⟩⟩⟩⟩⟩⟩⟩⟩⟩⟩⟩⟩⟩⟩⟩⟩⟩⟩⟩⟩⟩⟩⟩⟩⟩⟩⟩⟩⟩⟩⟩⟩⟩⟩⟩⟩⟩⟩⟩⟩⟩⟩⟩⟩⟩⟩⟩⟩⟩⟩⟩⟩⟩⟩⟩⟩⟩⟩⟩⟩⟩⟩⟩⟩⟩⟩⟩⟩⟩⟩⟩⟩⟩⟩⟩⟩⟩⟩⟩⟩⟩⟩⟩⟩⟩⟩
theorem gs_0_132 : ab_csS 0 132 4 3 := ab_csS_own (own := 0) (idx := 132) (n := 3) me_4 rfl q474 q475 q137 q476 ⟨by decide +kernel, by decide +kernel, by decide +kernel⟩
theorem gs_0_188 : ab_csS 0 188 9 2 := ab_csS_own (own := 0) (idx := 188) (n := 2) me_9 rfl q878 q879 q137 q880 ⟨by decide +kernel, by decide +kernel, by decide +kernel⟩
theorem gs_0_206 : ab_csS 0 206 279 2 := ab_csS_own (own := 0) (idx := 206) (n := 2) me_279 rfl q998 q580 q151 q581 ⟨by decide +kernel, by decide +kernel, by decide +kernel⟩
theorem gs_0_422 : ab_csS 0 422 21 1 := ab_csS_own (own := 0) (idx := 422) (n := 1) me_21 rfl q1040 q1041 q137 q1042 ⟨by decide +kernel, by decide +kernel, by decide +kernel⟩
theorem gs_0_343 : ab_csS 0 343 283 1 := ab_csS_own (own := 0) (idx := 343) (n := 1) me_283 rfl q1189 q1190 q163 q1191 ⟨by decide +kernel, by decide +kernel, by decide +kernel⟩
theorem gs_0_363 : ab_csS 0 363 282 1 := ab_csS_own (own := 0) (idx := 363) (n := 1) me_282 rfl q1238 q1020 q163 q1021 ⟨by decide +kernel, by decide +kernel, by decide +kernel⟩
theorem gs_0_401 : ab_csS 0 401 71 1 := ab_csS_own (own := 0) (idx := 401) (n := 1) me_71 rfl q1292 q1293 q137 q1294 ⟨by decide +kernel, by decide +kernel, by decide +kernel⟩
theorem gs_0_397 : ab_csS 0 397 281 2 := ab_csS_own (own := 0) (idx := 397) (n := 2) me_281 rfl q1299 q974 q151 q975 ⟨by decide +kernel, by decide +kernel, by decide +kernel⟩
theorem gs_0_411 : ab_csS 0 411 73 2 := ab_csS_own (own := 0) (idx := 411) (n := 2) me_73 rfl q1300 q1301 q137 q1302 ⟨by decide +kernel, by decide +kernel, by decide +kernel⟩
theorem gs_6_83 : ab_csS 6 83 282 1 := ab_csS_own (own := 6) (idx := 83) (n := 1) me_282 rfl q1019 q1020 q163 q1021 ⟨by decide +kernel, by decide +kernel, by decide +kernel⟩
theorem gs_6_92 : ab_csS 6 92 278 2 := ab_csS_own (own := 6) (idx := 92) (n := 2) me_278 rfl q1026 q577 q151 q578 ⟨by decide +kernel, by decide +kernel, by decide +kernel⟩
theorem gs_8_91 : ab_csS 8 91 115 1 := ab_csS_own (own := 8) (idx := 91) (n := 1) me_115 rfl q1480 q1481 q147 q1482 ⟨by decide +kernel, by decide +kernel, by decide +kernel⟩
theorem gs_8_157 : ab_csS 8 157 118 3 := ab_csS_own (own := 8) (idx := 157) (n := 3) me_118 rfl q1616 q1617 q147 q1618 ⟨by decide +kernel, by decide +kernel, by decide +kernel⟩
theorem gs_8_126 : ab_csS 8 126 121 1 := ab_csS_own (own := 8) (idx := 126) (n := 1) me_121 rfl q1627 q1628 q147 q1629 ⟨by decide +kernel, by decide +kernel, by decide +kernel⟩
theorem gs_8_133 : ab_csS 8 133 123 1 := ab_csS_own (own := 8) (idx := 133) (n := 1) me_123 rfl q1637 q1638 q147 q1639 ⟨by decide +kernel, by decide +kernel, by decide +kernel⟩
theorem gs_8_260 : ab_csS 8 260 145 2 := ab_csS_own (own := 8) (idx := 260) (n := 2) me_145 rfl q1725 q1726 q147 q1727 ⟨by decide +kernel, by decide +kernel, by decide +kernel⟩
theorem gs_8_231 : ab_csS 8 231 157 3 := ab_csS_own (own := 8) (idx := 231) (n := 3) me_157 rfl q1774 q1775 q147 q1776 ⟨by decide +kernel, by decide +kernel, by decide +kernel⟩
theorem gs_8_414 : ab_csS 8 414 214 1 := ab_csS_own (own := 8) (idx := 414) (n := 1) me_214 rfl q2021 q2022 q147 q2023 ⟨by decide +kernel, by decide +kernel, by decide +kernel⟩
theorem gs_8_428 : ab_csS 8 428 219 1 := ab_csS_own (own := 8) (idx := 428) (n := 1) me_219 rfl q2040 q2041 q147 q2042 ⟨by decide +kernel, by decide +kernel, by decide +kernel⟩
theorem gs_8_421 : ab_csS 8 421 220 2 := ab_csS_own (own := 8) (idx := 421) (n := 2) me_220 rfl q2043 q2044 q147 q2045 ⟨by decide +kernel, by decide +kernel, by decide +kernel⟩
theorem gs_8_434 : ab_csS 8 434 224 2 := ab_csS_own (own := 8) (idx := 434) (n := 2) me_224 rfl q2059 q2060 q147 q2061 ⟨by decide +kernel, by decide +kernel, by decide +kernel⟩
theorem gs_13_30 : ab_csS 13 30 280 2 := ab_csS_own (own := 13) (idx := 30) (n := 2) me_280 rfl q970 q971 q151 q972 ⟨by decide +kernel, by decide +kernel, by decide +kernel⟩
theorem gs_13_36 : ab_csS 13 36 281 2 := ab_csS_own (own := 13) (idx := 36) (n := 2) me_281 rfl q973 q974 q151 q975 ⟨by decide +kernel, by decide +kernel, by decide +kernel⟩
theorem gs_1_54 : ab_csS 1 54 4 3 := ab_csS_nest (own := 1) (idx := 54) (n := 3) me_4 rfl q1106 q475 q137 q476 ⟨by decide +kernel, by decide +kernel, by decide +kernel⟩
theorem gs_2_28 : ab_csS 2 28 4 3 := ab_csS_nest (own := 2) (idx := 28) (n := 3) me_4 rfl q911 q475 q137 q476 ⟨by decide +kernel, by decide +kernel, by decide +kernel⟩
theorem gs_6_65 : ab_csS 6 65 4 3 := ab_csS_nest (own := 6) (idx := 65) (n := 3) me_4 rfl q889 q475 q137 q476 ⟨by decide +kernel, by decide +kernel, by decide +kernel⟩
theorem gs_9_41 : ab_csS 9 41 4 3 := ab_csS_nest (own := 9) (idx := 41) (n := 3) me_4 rfl q540 q475 q137 q476 ⟨by decide +kernel, by decide +kernel, by decide +kernel⟩
theorem ab_ls_all : ∀ e ∈ ab_lsT, ∃ na, ab_ln e.1 e.2.1 = some na ∧ ab_csS e.1 e.2.1 e.2.2 na := List.forall_mem_cons.mpr ⟨⟨_, ab_ln_0_132, gs_0_132⟩, List.forall_mem_cons.mpr ⟨⟨_, ab_ln_0_188, gs_0_188⟩, List.forall_mem_cons.mpr ⟨⟨_, ab_ln_0_206, gs_0_206⟩, List.forall_mem_cons.mpr ⟨⟨_, ab_ln_0_422, gs_0_422⟩, List.forall_mem_cons.mpr ⟨⟨_, ab_ln_0_343, gs_0_343⟩, List.forall_mem_cons.mpr ⟨⟨_, ab_ln_0_363, gs_0_363⟩, List.forall_mem_cons.mpr ⟨⟨_, ab_ln_0_401, gs_0_401⟩, List.forall_mem_cons.mpr ⟨⟨_, ab_ln_0_397, gs_0_397⟩, List.forall_mem_cons.mpr ⟨⟨_, ab_ln_0_411, gs_0_411⟩, List.forall_mem_cons.mpr ⟨⟨_, ab_ln_6_83, gs_6_83⟩, List.forall_mem_cons.mpr ⟨⟨_, ab_ln_6_92, gs_6_92⟩, List.forall_mem_cons.mpr ⟨⟨_, ab_ln_8_91, gs_8_91⟩, List.forall_mem_cons.mpr ⟨⟨_, ab_ln_8_157, gs_8_157⟩, List.forall_mem_cons.mpr ⟨⟨_, ab_ln_8_126, gs_8_126⟩, List.forall_mem_cons.mpr ⟨⟨_, ab_ln_8_133, gs_8_133⟩, List.forall_mem_cons.mpr ⟨⟨_, ab_ln_8_260, gs_8_260⟩, List.forall_mem_cons.mpr ⟨⟨_, ab_ln_8_231, gs_8_231⟩, List.forall_mem_cons.mpr ⟨⟨_, ab_ln_8_414, gs_8_414⟩, List.forall_mem_cons.mpr ⟨⟨_, ab_ln_8_428, gs_8_428⟩, List.forall_mem_cons.mpr ⟨⟨_, ab_ln_8_421, gs_8_421⟩, List.forall_mem_cons.mpr ⟨⟨_, ab_ln_8_434, gs_8_434⟩, List.forall_mem_cons.mpr ⟨⟨_, ab_ln_13_30, gs_13_30⟩, List.forall_mem_cons.mpr ⟨⟨_, ab_ln_13_36, gs_13_36⟩, List.forall_mem_cons.mpr ⟨⟨_, ab_ln_1_54, gs_1_54⟩, List.forall_mem_cons.mpr ⟨⟨_, ab_ln_2_28, gs_2_28⟩, List.forall_mem_cons.mpr ⟨⟨_, ab_ln_6_65, gs_6_65⟩, List.forall_mem_cons.mpr ⟨⟨_, ab_ln_9_41, gs_9_41⟩, fun _ h => absurd h List.not_mem_nil⟩⟩⟩⟩⟩⟩⟩⟩⟩⟩⟩⟩⟩⟩⟩⟩⟩⟩⟩⟩⟩⟩⟩⟩⟩⟩⟩
theorem gi_0_43 : ab_csI 0 43 89 2 := ab_csI_own (own := 0) (idx := 43) (n := 2) me_89 rfl q260 q261 q140 q262 rfl ⟨by decide +kernel, by decide +kernel, by decide +kernel⟩
theorem gi_0_56 : ab_csI 0 56 98 2 := ab_csI_own (own := 0) (idx := 56) (n := 2) me_98 rfl q301 q302 q143 q303 rfl ⟨by decide +kernel, by decide +kernel, by decide +kernel⟩
theorem gi_0_138 : ab_csI 0 138 231 2 := ab_csI_own (own := 0) (idx := 138) (n := 2) me_231 rfl q479 q480 q148 q481 rfl ⟨by decide +kernel, by decide +kernel, by decide +kernel⟩
theorem gi_9_229 : ab_csI 9 229 262 1 := ab_csI_own (own := 9) (idx := 229) (n := 1) me_262 rfl q742 q743 q156 q744 rfl ⟨by decide +kernel, by decide +kernel, by decide +kernel⟩
theorem gi_9_266 : ab_csI 9 266 265 1 := ab_csI_own (own := 9) (idx := 266) (n := 1) me_265 rfl q780 q781 q158 q782 rfl ⟨by decide +kernel, by decide +kernel, by decide +kernel⟩
theorem gi_9_270 : ab_csI 9 270 267 1 := ab_csI_own (own := 9) (idx := 270) (n := 1) me_267 rfl q793 q794 q159 q795 rfl ⟨by decide +kernel, by decide +kernel, by decide +kernel⟩
theorem gi_9_249 : ab_csI 9 249 269 3 := ab_csI_own (own := 9) (idx := 249) (n := 3) me_269 rfl q803 q804 q160 q805 rfl ⟨by decide +kernel, by decide +kernel, by decide +kernel⟩
theorem gi_9_241 : ab_csI 9 241 271 3 := ab_csI_own (own := 9) (idx := 241) (n := 3) me_271 rfl q819 q820 q161 q821 rfl ⟨by decide +kernel, by decide +kernel, by decide +kernel⟩
theorem gi_9_214 : ab_csI 9 214 273 3 := ab_csI_own (own := 9) (idx := 214) (n := 3) me_273 rfl q836 q837 q162 q838 rfl ⟨by decide +kernel, by decide +kernel, by decide +kernel⟩
theorem gi_19_9 : ab_csI 19 9 0 0 := ab_csI_own (own := 19) (idx := 9) (n := 0) me_0 rfl q173 q174 q137 q175 rfl ⟨by decide +kernel, by decide +kernel, by decide +kernel⟩
theorem gi_19_12 : ab_csI 19 12 114 0 := ab_csI_own (own := 19) (idx := 12) (n := 0) me_114 rfl q1476 q1477 q147 q1478 rfl ⟨by decide +kernel, by decide +kernel, by decide +kernel⟩
theorem gi_0_40 : ab_csI 0 40 81 0 := ab_csI_nest (own := 0) (idx := 40) (n := 0) me_81 rfl q181 q182 q138 q183 rfl ⟨by decide +kernel, by decide +kernel, by decide +kernel⟩
theorem gi_0_48 : ab_csI 0 48 92 1 := ab_csI_nest (own := 0) (idx := 48) (n := 1) me_92 rfl q279 q280 q141 q281 rfl ⟨by decide +kernel, by decide +kernel, by decide +kernel⟩
theorem gi_0_53 : ab_csI 0 53 95 1 := ab_csI_nest (own := 0) (idx := 53) (n := 1) me_95 rfl q290 q291 q142 q292 rfl ⟨by decide +kernel, by decide +kernel, by decide +kernel⟩
theorem gi_0_59 : ab_csI 0 59 101 1 := ab_csI_nest (own := 0) (idx := 59) (n := 1) me_101 rfl q315 q316 q144 q317 rfl ⟨by decide +kernel, by decide +kernel, by decide +kernel⟩
theorem gi_0_110 : ab_csI 0 110 110 0 := ab_csI_nest (own := 0) (idx := 110) (n := 0) me_110 rfl q351 q352 q145 q353 rfl ⟨by decide +kernel, by decide +kernel, by decide +kernel⟩
theorem gi_2_9 : ab_csI 2 9 87 1 := ab_csI_nest (own := 2) (idx := 9) (n := 1) me_87 rfl q263 q264 q139 q265 rfl ⟨by decide +kernel, by decide +kernel, by decide +kernel⟩
theorem gi_3_9 : ab_csI 3 9 87 1 := ab_csI_nest (own := 3) (idx := 9) (n := 1) me_87 rfl q282 q264 q139 q265 rfl ⟨by decide +kernel, by decide +kernel, by decide +kernel⟩
theorem gi_4_9 : ab_csI 4 9 87 1 := ab_csI_nest (own := 4) (idx := 9) (n := 1) me_87 rfl q293 q264 q139 q265 rfl ⟨by decide +kernel, by decide +kernel, by decide +kernel⟩
theorem gi_5_9 : ab_csI 5 9 87 1 := ab_csI_nest (own := 5) (idx := 9) (n := 1) me_87 rfl q304 q264 q139 q265 rfl ⟨by decide +kernel, by decide +kernel, by decide +kernel⟩
theorem gi_9_17 : ab_csI 9 17 81 0 := ab_csI_nest (own := 9) (idx := 17) (n := 0) me_81 rfl q484 q182 q138 q183 rfl ⟨by decide +kernel, by decide +kernel, by decide +kernel⟩
theorem gi_10_1 : ab_csI 10 1 261 0 := ab_csI_nest (own := 10) (idx := 1) (n := 0) me_261 rfl q745 q746 q155 q747 rfl ⟨by decide +kernel, by decide +kernel, by decide +kernel⟩
theorem gi_11_1 : ab_csI 11 1 264 0 := ab_csI_nest (own := 11) (idx := 1) (n := 0) me_264 rfl q783 q784 q157 q785 rfl ⟨by decide +kernel, by decide +kernel, by decide +kernel⟩
theorem gi_12_1 : ab_csI 12 1 264 0 := ab_csI_nest (own := 12) (idx := 1) (n := 0) me_264 rfl q796 q784 q157 q785 rfl ⟨by decide +kernel, by decide +kernel, by decide +kernel⟩
theorem gi_13_3 : ab_csI 13 3 264 0 := ab_csI_nest (own := 13) (idx := 3) (n := 0) me_264 rfl q806 q784 q157 q785 rfl ⟨by decide +kernel, by decide +kernel, by decide +kernel⟩
theorem gi_14_1 : ab_csI 14 1 261 0 := ab_csI_nest (own := 14) (idx := 1) (n := 0) me_261 rfl q822 q746 q155 q747 rfl ⟨by decide +kernel, by decide +kernel, by decide +kernel⟩
theorem gi_15_1 : ab_csI 15 1 261 0 := ab_csI_nest (own := 15) (idx := 1) (n := 0) me_261 rfl q839 q746 q155 q747 rfl ⟨by decide +kernel, by decide +kernel, by decide +kernel⟩
theorem ab_li_all : ∀ e ∈ ab_liT, ∃ na, ab_ln e.1 e.2.1 = some na ∧ ab_csI e.1 e.2.1 e.2.2 na := List.forall_mem_cons.mpr ⟨⟨_, ab_ln_0_43, gi_0_43⟩, List.forall_mem_cons.mpr ⟨⟨_, ab_ln_0_56, gi_0_56⟩, List.forall_mem_cons.mpr ⟨⟨_, ab_ln_0_138, gi_0_138⟩, List.forall_mem_cons.mpr ⟨⟨_, ab_ln_9_229, gi_9_229⟩, List.forall_mem_cons.mpr ⟨⟨_, ab_ln_9_266, gi_9_266⟩, List.forall_mem_cons.mpr ⟨⟨_, ab_ln_9_270, gi_9_270⟩, List.forall_mem_cons.mpr ⟨⟨_, ab_ln_9_249, gi_9_249⟩, List.forall_mem_cons.mpr ⟨⟨_, ab_ln_9_241, gi_9_241⟩, List.forall_mem_cons.mpr ⟨⟨_, ab_ln_9_214, gi_9_214⟩, List.forall_mem_cons.mpr ⟨⟨_, ab_ln_19_9, gi_19_9⟩, List.forall_mem_cons.mpr ⟨⟨_, ab_ln_19_12, gi_19_12⟩, List.forall_mem_cons.mpr ⟨⟨_, ab_ln_0_40, gi_0_40⟩, List.forall_mem_cons.mpr ⟨⟨_, ab_ln_0_48, gi_0_48⟩, List.forall_mem_cons.mpr ⟨⟨_, ab_ln_0_53, gi_0_53⟩, List.forall_mem_cons.mpr ⟨⟨_, ab_ln_0_59, gi_0_59⟩, List.forall_mem_cons.mpr ⟨⟨_, ab_ln_0_110, gi_0_110⟩, List.forall_mem_cons.mpr ⟨⟨_, ab_ln_2_9, gi_2_9⟩, List.forall_mem_cons.mpr ⟨⟨_, ab_ln_3_9, gi_3_9⟩, List.forall_mem_cons.mpr ⟨⟨_, ab_ln_4_9, gi_4_9⟩, List.forall_mem_cons.mpr ⟨⟨_, ab_ln_5_9, gi_5_9⟩, List.forall_mem_cons.mpr ⟨⟨_, ab_ln_9_17, gi_9_17⟩, List.forall_mem_cons.mpr ⟨⟨_, ab_ln_10_1, gi_10_1⟩, List.forall_mem_cons.mpr ⟨⟨_, ab_ln_11_1, gi_11_1⟩, List.forall_mem_cons.mpr ⟨⟨_, ab_ln_12_1, gi_12_1⟩, List.forall_mem_cons.mpr ⟨⟨_, ab_ln_13_3, gi_13_3⟩, List.forall_mem_cons.mpr ⟨⟨_, ab_ln_14_1, gi_14_1⟩, List.forall_mem_cons.mpr ⟨⟨_, ab_ln_15_1, gi_15_1⟩, fun _ h => absurd h List.not_mem_nil⟩⟩⟩⟩⟩⟩⟩⟩⟩⟩⟩⟩⟩⟩⟩⟩⟩⟩⟩⟩⟩⟩⟩⟩⟩⟩⟩
theorem gt_8_103 : ab_csV 8 103 "java/lang/String" 276 0 := ab_csV_own (own := 8) (idx := 103) (n := 0) me_276 rfl q1635 q563 q564 q149 q565 rfl ⟨by decide +kernel, by decide +kernel, by decide +kernel⟩
theorem gt_8_109 : ab_csV 8 109 "java/lang/String" 277 1 := ab_csV_own (own := 8) (idx := 109) (n := 1) me_277 rfl q1636 q649 q650 q149 q651 rfl ⟨by decide +kernel, by decide +kernel, by decide +kernel⟩
theorem gt_9_70 : ab_csV 9 70 "java/lang/String" 275 1 := ab_csV_own (own := 9) (idx := 70) (n := 1) me_275 rfl q548 q549 q550 q149 q551 rfl ⟨by decide +kernel, by decide +kernel, by decide +kernel⟩
theorem gt_9_78 : ab_csV 9 78 "java/lang/String" 276 0 := ab_csV_own (own := 9) (idx := 78) (n := 0) me_276 rfl q647 q563 q564 q149 q565 rfl ⟨by decide +kernel, by decide +kernel, by decide +kernel⟩
theorem gt_9_82 : ab_csV 9 82 "java/lang/String" 277 1 := ab_csV_own (own := 9) (idx := 82) (n := 1) me_277 rfl q648 q649 q650 q149 q651 rfl ⟨by decide +kernel, by decide +kernel, by decide +kernel⟩
theorem ab_lt_all : ∀ e ∈ ab_ltT, ∃ na, ab_ln e.1 e.2.1 = some na ∧ ab_csV e.1 e.2.1 "java/lang/String" e.2.2 na := List.forall_mem_cons.mpr ⟨⟨_, ab_ln_8_103, gt_8_103⟩, List.forall_mem_cons.mpr ⟨⟨_, ab_ln_8_109, gt_8_109⟩, List.forall_mem_cons.mpr ⟨⟨_, ab_ln_9_70, gt_9_70⟩, List.forall_mem_cons.mpr ⟨⟨_, ab_ln_9_78, gt_9_78⟩, List.forall_mem_cons.mpr ⟨⟨_, ab_ln_9_82, gt_9_82⟩, fun _ h => absurd h List.not_mem_nil⟩⟩⟩⟩⟩
theorem ab_lo_all : ∀ e ∈ ab_loT, Cond.methodLink (ab_nm e.1) e.2.1 Lib.objectInit ∈ lw_all := List.forall_mem_cons.mpr ⟨q176, List.forall_mem_cons.mpr ⟨q184, List.forall_mem_cons.mpr ⟨q266, List.forall_mem_cons.mpr ⟨q318, List.forall_mem_cons.mpr ⟨q354, List.forall_mem_cons.mpr ⟨q1479, List.forall_mem_cons.mpr ⟨q482, List.forall_mem_cons.mpr ⟨q748, List.forall_mem_cons.mpr ⟨q786, fun _ h => absurd h List.not_mem_nil⟩⟩⟩⟩⟩⟩⟩⟩⟩
theorem ab_lc_all : ∀ e ∈ ab_lcT, Cond.methodLink (ab_nm e.1) e.2.1 arraycopyName ∈ lw_all := List.forall_mem_cons.mpr ⟨q1120, List.forall_mem_cons.mpr ⟨q367, fun _ h => absurd h List.not_mem_nil⟩⟩
theorem ab_fl_all : ∀ e ∈ ab_flT, ab_fok e.1 e.2.1 e.2.2.1 e.2.2.2 := List.forall_mem_cons.mpr ⟨⟨_, rfl, by decide, .inl ⟨q376, rfl⟩⟩, List.forall_mem_cons.mpr ⟨⟨_, rfl, by decide, .inl ⟨q377, rfl⟩⟩, List.forall_mem_cons.mpr ⟨⟨_, rfl, by decide, .inl ⟨q378, rfl⟩⟩, List.forall_mem_cons.mpr ⟨⟨_, rfl, by decide, .inl ⟨q379, rfl⟩⟩, List.forall_mem_cons.mpr ⟨⟨_, rfl, by decide, .inl ⟨q381, rfl⟩⟩, List.forall_mem_cons.mpr ⟨⟨_, rfl, by decide, .inl ⟨q382, rfl⟩⟩, List.forall_mem_cons.mpr ⟨⟨_, rfl, by decide, .inl ⟨q383, rfl⟩⟩, List.forall_mem_cons.mpr ⟨⟨_, rfl, by decide, .inl ⟨q384, rfl⟩⟩, List.forall_mem_cons.mpr ⟨⟨_, rfl, by decide, .inl ⟨q385, rfl⟩⟩, List.forall_mem_cons.mpr ⟨⟨_, rfl, by decide, .inl ⟨q386, rfl⟩⟩, List.forall_mem_cons.mpr ⟨⟨_, rfl, by decide, .inl ⟨q387, rfl⟩⟩, List.forall_mem_cons.mpr ⟨⟨_, rfl, by decide, .inl ⟨q388, rfl⟩⟩, List.forall_mem_cons.mpr ⟨⟨_, rfl, by decide, .inl ⟨q389, rfl⟩⟩, List.forall_mem_cons.mpr ⟨⟨_, rfl, by decide, .inl ⟨q390, rfl⟩⟩, List.forall_mem_cons.mpr ⟨⟨_, rfl, by decide, .inl ⟨q391, rfl⟩⟩, List.forall_mem_cons.mpr ⟨⟨_, rfl, by decide, .inl ⟨q392, rfl⟩⟩, List.forall_mem_cons.mpr ⟨⟨_, rfl, by decide, .inl ⟨q393, rfl⟩⟩, List.forall_mem_cons.mpr ⟨⟨_, rfl, by decide, .inl ⟨q394, rfl⟩⟩, List.forall_mem_cons.mpr ⟨⟨_, rfl, by decide, .inl ⟨q395, rfl⟩⟩, List.forall_mem_cons.mpr ⟨⟨_, rfl, by decide, .inl ⟨q396, rfl⟩⟩, List.forall_mem_cons.mpr ⟨⟨_, rfl, by decide, .inl ⟨q397, rfl⟩⟩, List.forall_mem_cons.mpr ⟨⟨_, rfl, by decide, .inl ⟨q398, rfl⟩⟩, List.forall_mem_cons.mpr ⟨⟨_, rfl, by decide, .inl ⟨q399, rfl⟩⟩, List.forall_mem_cons.mpr ⟨⟨_, rfl, by decide, .inl ⟨q400, rfl⟩⟩, List.forall_mem_cons.mpr ⟨⟨_, rfl, by decide, .inl ⟨q401, rfl⟩⟩, List.forall_mem_cons.mpr ⟨⟨_, rfl, by decide, .inl ⟨q402, rfl⟩⟩, List.forall_mem_cons.mpr ⟨⟨_, rfl, by decide, .inl ⟨q403, rfl⟩⟩, List.forall_mem_cons.mpr ⟨⟨_, rfl, by decide, .inl ⟨q404, rfl⟩⟩, List.forall_mem_cons.mpr ⟨⟨_, rfl, by decide, .inl ⟨q185, rfl⟩⟩, List.forall_mem_cons.mpr ⟨⟨_, rfl, by decide, .inl ⟨q188, rfl⟩⟩, List.forall_mem_cons.mpr ⟨⟨_, rfl, by decide, .inl ⟨q191, rfl⟩⟩, List.forall_mem_cons.mpr ⟨⟨_, rfl, by decide, .inl ⟨q194, rfl⟩⟩, List.forall_mem_cons.mpr ⟨⟨_, rfl, by decide, .inl ⟨q198, rfl⟩⟩, List.forall_mem_cons.mpr ⟨⟨_, rfl, by decide, .inl ⟨q202, rfl⟩⟩, List.forall_mem_cons.mpr ⟨⟨_, rfl, by decide, .inl ⟨q203, rfl⟩⟩, List.forall_mem_cons.mpr ⟨⟨_, rfl, by decide, .inl ⟨q208, rfl⟩⟩, List.forall_mem_cons.mpr ⟨⟨_, rfl, by decide, .inl ⟨q213, rfl⟩⟩, List.forall_mem_cons.mpr ⟨⟨_, rfl, by decide, .inl ⟨q222, rfl⟩⟩, List.forall_mem_cons.mpr ⟨⟨_, rfl, by decide, .inl ⟨q224, rfl⟩⟩, List.forall_mem_cons.mpr ⟨⟨_, rfl, by decide, .inl ⟨q269, rfl⟩⟩, List.forall_mem_cons.mpr ⟨⟨_, rfl, by decide, .inl ⟨q269, rfl⟩⟩, List.forall_mem_cons.mpr ⟨⟨_, rfl, by decide, .inl ⟨q269, rfl⟩⟩, List.forall_mem_cons.mpr ⟨⟨_, rfl, by decide, .inl ⟨q269, rfl⟩⟩, List.forall_mem_cons.mpr ⟨⟨_, rfl, by decide, .inl ⟨q267, rfl⟩⟩, List.forall_mem_cons.mpr ⟨⟨_, rfl, by decide, .inl ⟨q268, rfl⟩⟩, List.forall_mem_cons.mpr ⟨⟨_, rfl, by decide, .inl ⟨q283, rfl⟩⟩, List.forall_mem_cons.mpr ⟨⟨_, rfl, by decide, .inl ⟨q294, rfl⟩⟩, List.forall_mem_cons.mpr ⟨⟨_, rfl, by decide, .inl ⟨q305, rfl⟩⟩, List.forall_mem_cons.mpr ⟨⟨_, rfl, by decide, .inl ⟨q306, rfl⟩⟩, List.forall_mem_cons.mpr ⟨⟨_, rfl, by decide, .inl ⟨q319, rfl⟩⟩, List.forall_mem_cons.mpr ⟨⟨_, rfl, by decide, .inl ⟨q321, rfl⟩⟩, List.forall_mem_cons.mpr ⟨⟨_, rfl, by decide, .inl ⟨q323, rfl⟩⟩, List.forall_mem_cons.mpr ⟨⟨_, rfl, by decide, .inl ⟨q325, rfl⟩⟩, List.forall_mem_cons.mpr ⟨⟨_, rfl, by decide, .inl ⟨q327, rfl⟩⟩, List.forall_mem_cons.mpr ⟨⟨_, rfl, by decide, .inl ⟨q329, rfl⟩⟩, List.forall_mem_cons.mpr ⟨⟨_, rfl, by decide, .inl ⟨q331, rfl⟩⟩, List.forall_mem_cons.mpr ⟨⟨_, rfl, by decide, .inl ⟨q355, rfl⟩⟩, List.forall_mem_cons.mpr ⟨⟨_, rfl, by decide, .inl ⟨q1483, rfl⟩⟩, List.forall_mem_cons.mpr ⟨⟨_, rfl, by decide, .inl ⟨q1484, rfl⟩⟩, List.forall_mem_cons.mpr ⟨⟨_, rfl, by decide, .inl ⟨q1485, rfl⟩⟩, List.forall_mem_cons.mpr ⟨⟨_, rfl, by decide, .inl ⟨q1486, rfl⟩⟩, List.forall_mem_cons.mpr ⟨⟨_, rfl, by decide, .inl ⟨q1487, rfl⟩⟩, List.forall_mem_cons.mpr ⟨⟨_, rfl, by decide, .inl ⟨q1488, rfl⟩⟩, List.forall_mem_cons.mpr ⟨⟨_, rfl, by decide, .inl ⟨q1489, rfl⟩⟩, List.forall_mem_cons.mpr ⟨⟨_, rfl, by decide, .inl ⟨q1490, rfl⟩⟩, List.forall_mem_cons.mpr ⟨⟨_, rfl, by decide, .inl ⟨q1491, rfl⟩⟩, List.forall_mem_cons.mpr ⟨⟨_, rfl, by decide, .inl ⟨q1492, rfl⟩⟩, List.forall_mem_cons.mpr ⟨⟨_, rfl, by decide, .inl ⟨q1493, rfl⟩⟩, List.forall_mem_cons.mpr ⟨⟨_, rfl, by decide, .inl ⟨q1494, rfl⟩⟩, List.forall_mem_cons.mpr ⟨⟨_, rfl, by decide, .inl ⟨q1495, rfl⟩⟩, List.forall_mem_cons.mpr ⟨⟨_, rfl, by decide, .inl ⟨q1496, rfl⟩⟩, List.forall_mem_cons.mpr ⟨⟨_, rfl, by decide, .inl ⟨q1497, rfl⟩⟩, List.forall_mem_cons.mpr ⟨⟨_, rfl, by decide, .inl ⟨q1498, rfl⟩⟩, List.forall_mem_cons.mpr ⟨⟨_, rfl, by decide, .inl ⟨q1499, rfl⟩⟩, List.forall_mem_cons.mpr ⟨⟨_, rfl, by decide, .inl ⟨q1500, rfl⟩⟩, List.forall_mem_cons.mpr ⟨⟨_, rfl, by decide, .inl ⟨q1501, rfl⟩⟩, List.forall_mem_cons.mpr ⟨⟨_, rfl, by decide, .inl ⟨q1502, rfl⟩⟩, List.forall_mem_cons.mpr ⟨⟨_, rfl, by decide, .inl ⟨q1503, rfl⟩⟩, List.forall_mem_cons.mpr ⟨⟨_, rfl, by decide, .inl ⟨q1504, rfl⟩⟩, List.forall_mem_cons.mpr ⟨⟨_, rfl, by decide, .inl ⟨q1505, rfl⟩⟩, List.forall_mem_cons.mpr ⟨⟨_, rfl, by decide, .inl ⟨q1506, rfl⟩⟩, List.forall_mem_cons.mpr ⟨⟨_, rfl, by decide, .inl ⟨q1507, rfl⟩⟩, List.forall_mem_cons.mpr ⟨⟨_, rfl, by decide, .inl ⟨q1508, rfl⟩⟩, List.forall_mem_cons.mpr ⟨⟨_, rfl, by decide, .inl ⟨q1509, rfl⟩⟩, List.forall_mem_cons.mpr ⟨⟨_, rfl, by decide, .inl ⟨q1510, rfl⟩⟩, List.forall_mem_cons.mpr ⟨⟨_, rfl, by decide, .inl ⟨q1511, rfl⟩⟩, List.forall_mem_cons.mpr ⟨⟨_, rfl, by decide, .inl ⟨q1512, rfl⟩⟩, List.forall_mem_cons.mpr ⟨⟨_, rfl, by decide, .inl ⟨q1513, rfl⟩⟩, List.forall_mem_cons.mpr ⟨⟨_, rfl, by decide, .inl ⟨q1514, rfl⟩⟩, List.forall_mem_cons.mpr ⟨⟨_, rfl, by decide, .inl ⟨q1515, rfl⟩⟩, List.forall_mem_cons.mpr ⟨⟨_, rfl, by decide, .inl ⟨q1516, rfl⟩⟩, List.forall_mem_cons.mpr ⟨⟨_, rfl, by decide, .inl ⟨q1517, rfl⟩⟩, List.forall_mem_cons.mpr ⟨⟨_, rfl, by decide, .inl ⟨q1518, rfl⟩⟩, List.forall_mem_cons.mpr ⟨⟨_, rfl, by decide, .inl ⟨q1519, rfl⟩⟩, List.forall_mem_cons.mpr ⟨⟨_, rfl, by decide, .inl ⟨q1520, rfl⟩⟩, List.forall_mem_cons.mpr ⟨⟨_, rfl, by decide, .inl ⟨q1521, rfl⟩⟩, List.forall_mem_cons.mpr ⟨⟨_, rfl, by decide, .inl ⟨q1522, rfl⟩⟩, List.forall_mem_cons.mpr ⟨⟨_, rfl, by decide, .inl ⟨q1523, rfl⟩⟩, List.forall_mem_cons.mpr ⟨⟨_, rfl, by decide, .inl ⟨q485, rfl⟩⟩, List.forall_mem_cons.mpr ⟨⟨_, rfl, by decide, .inl ⟨q486, rfl⟩⟩, List.forall_mem_cons.mpr ⟨⟨_, rfl, by decide, .inl ⟨q488, rfl⟩⟩, List.forall_mem_cons.mpr ⟨⟨_, rfl, by decide, .inl ⟨q489, rfl⟩⟩, List.forall_mem_cons.mpr ⟨⟨_, rfl, by decide, .inl ⟨q490, rfl⟩⟩, List.forall_mem_cons.mpr ⟨⟨_, rfl, by decide, .inl ⟨q491, rfl⟩⟩, List.forall_mem_cons.mpr ⟨⟨_, rfl, by decide, .inl ⟨q492, rfl⟩⟩, List.forall_mem_cons.mpr ⟨⟨_, rfl, by decide, .inl ⟨q494, rfl⟩⟩, List.forall_mem_cons.mpr ⟨⟨_, rfl, by decide, .inl ⟨q495, rfl⟩⟩, List.forall_mem_cons.mpr ⟨⟨_, rfl, by decide, .inl ⟨q497, rfl⟩⟩, List.forall_mem_cons.mpr ⟨⟨_, rfl, by decide, .inl ⟨q498, rfl⟩⟩, List.forall_mem_cons.mpr ⟨⟨_, rfl, by decide, .inl ⟨q749, rfl⟩⟩, List.forall_mem_cons.mpr ⟨⟨_, rfl, by decide, .inl ⟨q787, rfl⟩⟩, List.forall_mem_cons.mpr ⟨⟨_, rfl, by decide, .inl ⟨q797, rfl⟩⟩, List.forall_mem_cons.mpr ⟨⟨_, rfl, by decide, .inl ⟨q807, rfl⟩⟩, List.forall_mem_cons.mpr ⟨⟨_, rfl, by decide, .inl ⟨q808, rfl⟩⟩, List.forall_mem_cons.mpr ⟨⟨_, rfl, by decide, .inl ⟨q809, rfl⟩⟩, List.forall_mem_cons.mpr ⟨⟨_, rfl, by decide, .inl ⟨q823, rfl⟩⟩, List.forall_mem_cons.mpr ⟨⟨_, rfl, by decide, .inl ⟨q824, rfl⟩⟩, List.forall_mem_cons.mpr ⟨⟨_, rfl, by decide, .inl ⟨q825, rfl⟩⟩, List.forall_mem_cons.mpr ⟨⟨_, rfl, by decide, .inl ⟨q840, rfl⟩⟩, List.forall_mem_cons.mpr ⟨⟨_, rfl, by decide, .inl ⟨q841, rfl⟩⟩, List.forall_mem_cons.mpr ⟨⟨_, rfl, by decide, .inl ⟨q842, rfl⟩⟩, List.forall_mem_cons.mpr ⟨⟨_, rfl, by decide, .inr ⟨_, q192, by decide, by decide⟩⟩, List.forall_mem_cons.mpr ⟨⟨_, rfl, by decide, .inr ⟨_, q196, by decide, by decide⟩⟩, List.forall_mem_cons.mpr ⟨⟨_, rfl, by decide, .inr ⟨_, q200, by decide, by decide⟩⟩, List.forall_mem_cons.mpr ⟨⟨_, rfl, by decide, .inr ⟨_, q207, by decide, by decide⟩⟩, List.forall_mem_cons.mpr ⟨⟨_, rfl, by decide, .inr ⟨_, q211, by decide, by decide⟩⟩, List.forall_mem_cons.mpr ⟨⟨_, rfl, by decide, .inr ⟨_, q214, by decide, by decide⟩⟩, List.forall_mem_cons.mpr ⟨⟨_, rfl, by decide, .inr ⟨_, q217, by decide, by decide⟩⟩, List.forall_mem_cons.mpr ⟨⟨_, rfl, by decide, .inr ⟨_, q220, by decide, by decide⟩⟩, List.forall_mem_cons.mpr ⟨⟨_, rfl, by decide, .inr ⟨_, q320, by decide, by decide⟩⟩, List.forall_mem_cons.mpr ⟨⟨_, rfl, by decide, .inr ⟨_, q322, by decide, by decide⟩⟩, List.forall_mem_cons.mpr ⟨⟨_, rfl, by decide, .inr ⟨_, q324, by decide, by decide⟩⟩, List.forall_mem_cons.mpr ⟨⟨_, rfl, by decide, .inr ⟨_, q326, by decide, by decide⟩⟩, List.forall_mem_cons.mpr ⟨⟨_, rfl, by decide, .inr ⟨_, q328, by decide, by decide⟩⟩, List.forall_mem_cons.mpr ⟨⟨_, rfl, by decide, .inr ⟨_, q330, by decide, by decide⟩⟩, List.forall_mem_cons.mpr ⟨⟨_, rfl, by decide, .inr ⟨_, q356, by decide, by decide⟩⟩, List.forall_mem_cons.mpr ⟨⟨_, rfl, by decide, .inr ⟨_, q487, by decide, by decide⟩⟩, List.forall_mem_cons.mpr ⟨⟨_, rfl, by decide, .inr ⟨_, q493, by decide, by decide⟩⟩, List.forall_mem_cons.mpr ⟨⟨_, rfl, by decide, .inr ⟨_, q496, by decide, by decide⟩⟩, List.forall_mem_cons.mpr ⟨⟨_, rfl, by decide, .inr ⟨_, q204, by decide, by decide⟩⟩, List.forall_mem_cons.mpr ⟨⟨_, rfl, by decide, .inr ⟨_, q374, by decide, by decide⟩⟩, List.forall_mem_cons.mpr ⟨⟨_, rfl, by decide, .inr ⟨_, q186, by decide, by decide⟩⟩, List.forall_mem_cons.mpr ⟨⟨_, rfl, by decide, .inr ⟨_, q189, by decide, by decide⟩⟩, List.forall_mem_cons.mpr ⟨⟨_, rfl, by decide, .inr ⟨_, q195, by decide, by decide⟩⟩, List.forall_mem_cons.mpr ⟨⟨_, rfl, by decide, .inr ⟨_, q199, by decide, by decide⟩⟩, List.forall_mem_cons.mpr ⟨⟨_, rfl, by decide, .inr ⟨_, q205, by decide, by decide⟩⟩, List.forall_mem_cons.mpr ⟨⟨_, rfl, by decide, .inr ⟨_, q209, by decide, by decide⟩⟩, List.forall_mem_cons.mpr ⟨⟨_, rfl, by decide, .inr ⟨_, q212, by decide, by decide⟩⟩, List.forall_mem_cons.mpr ⟨⟨_, rfl, by decide, .inr ⟨_, q218, by decide, by decide⟩⟩, List.forall_mem_cons.mpr ⟨⟨_, rfl, by decide, .inr ⟨_, q375, by decide, by decide⟩⟩, List.forall_mem_cons.mpr ⟨⟨_, rfl, by decide, .inr ⟨_, q187, by decide, by decide⟩⟩, List.forall_mem_cons.mpr ⟨⟨_, rfl, by decide, .inr ⟨_, q190, by decide, by decide⟩⟩, List.forall_mem_cons.mpr ⟨⟨_, rfl, by decide, .inr ⟨_, q193, by decide, by decide⟩⟩, List.forall_mem_cons.mpr ⟨⟨_, rfl, by decide, .inr ⟨_, q197, by decide, by decide⟩⟩, List.forall_mem_cons.mpr ⟨⟨_, rfl, by decide, .inr ⟨_, q201, by decide, by decide⟩⟩, List.forall_mem_cons.mpr ⟨⟨_, rfl, by decide, .inr ⟨_, q206, by decide, by decide⟩⟩, List.forall_mem_cons.mpr ⟨⟨_, rfl, by decide, .inr ⟨_, q210, by decide, by decide⟩⟩, List.forall_mem_cons.mpr ⟨⟨_, rfl, by decide, .inr ⟨_, q215, by decide, by decide⟩⟩, List.forall_mem_cons.mpr ⟨⟨_, rfl, by decide, .inr ⟨_, q216, by decide, by decide⟩⟩, List.forall_mem_cons.mpr ⟨⟨_, rfl, by decide, .inr ⟨_, q219, by decide, by decide⟩⟩, List.forall_mem_cons.mpr ⟨⟨_, rfl, by decide, .inr ⟨_, q221, by decide, by decide⟩⟩, List.forall_mem_cons.mpr ⟨⟨_, rfl, by decide, .inr ⟨_, q223, by decide, by decide⟩⟩, List.forall_mem_cons.mpr ⟨⟨_, rfl, by decide, .inr ⟨_, q225, by decide, by decide⟩⟩, List.forall_mem_cons.mpr ⟨⟨_, rfl, by decide, .inr ⟨_, q380, by decide, by decide⟩⟩, fun _ h => absurd h List.not_mem_nil⟩⟩⟩⟩⟩⟩⟩⟩⟩⟩⟩⟩⟩⟩⟩⟩⟩⟩⟩⟩⟩⟩⟩⟩⟩⟩⟩⟩⟩⟩⟩⟩⟩⟩⟩⟩⟩⟩⟩⟩⟩⟩⟩⟩⟩⟩⟩⟩⟩⟩⟩⟩⟩⟩⟩⟩⟩⟩⟩⟩⟩⟩⟩⟩⟩⟩⟩⟩⟩⟩⟩⟩⟩⟩⟩⟩⟩⟩⟩⟩⟩⟩⟩⟩⟩⟩⟩⟩⟩⟩⟩⟩⟩⟩⟩⟩⟩⟩⟩⟩⟩⟩⟩⟩⟩⟩⟩⟩⟩⟩⟩⟩⟩⟩⟩⟩⟩⟩⟩⟩⟩⟩⟩⟩⟩⟩⟩⟩⟩⟩⟩⟩⟩⟩⟩⟩⟩⟩⟩⟩⟩⟩⟩⟩⟩⟩⟩⟩⟩⟩⟩⟩⟩⟩⟩⟩⟩⟩⟩⟩⟩⟩⟩⟩
theorem ab_nc_all : ∀ e ∈ ab_ncT, ab_nok e.1 e.2.1 e.2.2 := List.forall_mem_cons.mpr ⟨⟨_, rfl, q179, q180, q138⟩, List.forall_mem_cons.mpr ⟨⟨_, rfl, q258, q259, q140⟩, List.forall_mem_cons.mpr ⟨⟨_, rfl, q277, q278, q141⟩, List.forall_mem_cons.mpr ⟨⟨_, rfl, q288, q289, q142⟩, List.forall_mem_cons.mpr ⟨⟨_, rfl, q299, q300, q143⟩, List.forall_mem_cons.mpr ⟨⟨_, rfl, q313, q314, q144⟩, List.forall_mem_cons.mpr ⟨⟨_, rfl, q348, q350, q145⟩, List.forall_mem_cons.mpr ⟨⟨_, rfl, q477, q478, q148⟩, List.forall_mem_cons.mpr ⟨⟨_, rfl, q483, q180, q138⟩, List.forall_mem_cons.mpr ⟨⟨_, rfl, q740, q741, q156⟩, List.forall_mem_cons.mpr ⟨⟨_, rfl, q778, q779, q158⟩, List.forall_mem_cons.mpr ⟨⟨_, rfl, q791, q792, q159⟩, List.forall_mem_cons.mpr ⟨⟨_, rfl, q801, q802, q160⟩, List.forall_mem_cons.mpr ⟨⟨_, rfl, q817, q818, q161⟩, List.forall_mem_cons.mpr ⟨⟨_, rfl, q834, q835, q162⟩, List.forall_mem_cons.mpr ⟨⟨_, rfl, q171, q172, q137⟩, List.forall_mem_cons.mpr ⟨⟨_, rfl, q1474, q1475, q147⟩, fun _ h => absurd h List.not_mem_nil⟩⟩⟩⟩⟩⟩⟩⟩⟩⟩⟩⟩⟩⟩⟩⟩⟩
theorem ab_na_all : ∀ e ∈ ab_naT, Cond.classLink (ab_nm e.1) e.2.1 (ab_ec e.2.2) ∈ lw_all ∧ 5 ≤ e.2.2 ∧ e.2.2 < 9 := List.forall_mem_cons.mpr ⟨⟨q179, by decide, by decide⟩, List.forall_mem_cons.mpr ⟨⟨q256, by decide, by decide⟩, List.forall_mem_cons.mpr ⟨⟨q313, by decide, by decide⟩, List.forall_mem_cons.mpr ⟨⟨q348, by decide, by decide⟩, List.forall_mem_cons.mpr ⟨⟨q483, by decide, by decide⟩, fun _ h => absurd h List.not_mem_nil⟩⟩⟩⟩⟩
theorem ab_an_0 : ab_an 0 = "[I" := by decide +kernel
theorem ab_an_1 : ab_an 1 = "[B" := by decide +kernel
theorem ab_an_2 : ab_an 2 = "[S" := by decide +kernel
theorem ab_an_4 : ab_an 4 = "[J" := by decide +kernel
theorem ab_ct_all : ∀ e ∈ ab_ctT, Cond.classLink (ab_nm e.1) e.2.1 (ab_an e.2.2) ∈ lw_all ∧ e.2.2 < 5 := List.forall_mem_cons.mpr ⟨⟨by rw [ab_an_1]; exact q1051, by decide⟩, List.forall_mem_cons.mpr ⟨⟨by rw [ab_an_2]; exact q1052, by decide⟩, List.forall_mem_cons.mpr ⟨⟨by rw [ab_an_0]; exact q1053, by decide⟩, List.forall_mem_cons.mpr ⟨⟨by rw [ab_an_4]; exact q1054, by decide⟩, fun _ h => absurd h List.not_mem_nil⟩⟩⟩⟩
theorem ab_kc_all : ∀ e ∈ ab_kcT, Cond.constant (ab_nm e.1) e.2.1 e.2.2 ∈ lw_all := List.forall_mem_cons.mpr ⟨q1093, List.forall_mem_cons.mpr ⟨q1863, List.forall_mem_cons.mpr ⟨q1022, List.forall_mem_cons.mpr ⟨q1023, List.forall_mem_cons.mpr ⟨q1024, List.forall_mem_cons.mpr ⟨q1192, fun _ h => absurd h List.not_mem_nil⟩⟩⟩⟩⟩⟩
theorem ab_kl_all : ∀ e ∈ ab_klT, Cond.constantLong (ab_nm e.1) e.2.1 e.2.2 ∈ lw_all := List.forall_mem_cons.mpr ⟨q865, List.forall_mem_cons.mpr ⟨q1004, List.forall_mem_cons.mpr ⟨q1009, List.forall_mem_cons.mpr ⟨q1014, List.forall_mem_cons.mpr ⟨q1035, List.forall_mem_cons.mpr ⟨q1084, List.forall_mem_cons.mpr ⟨q1157, List.forall_mem_cons.mpr ⟨q1158, List.forall_mem_cons.mpr ⟨q1159, List.forall_mem_cons.mpr ⟨q1168, List.forall_mem_cons.mpr ⟨q1225, List.forall_mem_cons.mpr ⟨q1287, List.forall_mem_cons.mpr ⟨q1307, List.forall_mem_cons.mpr ⟨q1452, List.forall_mem_cons.mpr ⟨q1453, List.forall_mem_cons.mpr ⟨q1107, List.forall_mem_cons.mpr ⟨q890, List.forall_mem_cons.mpr ⟨q1063, List.forall_mem_cons.mpr ⟨q1064, List.forall_mem_cons.mpr ⟨q1065, List.forall_mem_cons.mpr ⟨q1066, List.forall_mem_cons.mpr ⟨q1067, List.forall_mem_cons.mpr ⟨q1068, List.forall_mem_cons.mpr ⟨q1069, List.forall_mem_cons.mpr ⟨q1070, List.forall_mem_cons.mpr ⟨q1736, List.forall_mem_cons.mpr ⟨q1757, List.forall_mem_cons.mpr ⟨q1777, List.forall_mem_cons.mpr ⟨q1778, List.forall_mem_cons.mpr ⟨q1795, List.forall_mem_cons.mpr ⟨q1800, List.forall_mem_cons.mpr ⟨q1805, List.forall_mem_cons.mpr ⟨q1814, List.forall_mem_cons.mpr ⟨q1819, List.forall_mem_cons.mpr ⟨q1832, List.forall_mem_cons.mpr ⟨q1833, List.forall_mem_cons.mpr ⟨q1834, List.forall_mem_cons.mpr ⟨q1835, List.forall_mem_cons.mpr ⟨q1836, List.forall_mem_cons.mpr ⟨q1837, List.forall_mem_cons.mpr ⟨q1854, List.forall_mem_cons.mpr ⟨q1872, List.forall_mem_cons.mpr ⟨q1901, List.forall_mem_cons.mpr ⟨q1902, List.forall_mem_cons.mpr ⟨q1903, List.forall_mem_cons.mpr ⟨q1908, List.forall_mem_cons.mpr ⟨q2058, List.forall_mem_cons.mpr ⟨q538, List.forall_mem_cons.mpr ⟨q539, List.forall_mem_cons.mpr ⟨q545, List.forall_mem_cons.mpr ⟨q546, List.forall_mem_cons.mpr ⟨q968, List.forall_mem_cons.mpr ⟨q969, List.forall_mem_cons.mpr ⟨q2086, fun _ h => absurd h List.not_mem_nil⟩⟩⟩⟩⟩⟩⟩⟩⟩⟩⟩⟩⟩⟩⟩⟩⟩⟩⟩⟩⟩⟩⟩⟩⟩⟩⟩⟩⟩⟩⟩⟩⟩⟩⟩⟩⟩⟩⟩⟩⟩⟩⟩⟩⟩⟩⟩⟩⟩⟩⟩⟩⟩⟩
theorem ab_cls : ∀ (c : Nat) (q : vw_C), vwCl[c]? = some q → (∀ w ∈ u_ws q.1 q.2.1 q.2.2, w ∈ lw_all) ∧ (∀ k, k < q.2.2 → parseFieldDescriptor (q.2.1 k).2.2.1 = some (ab_tyc c k)) ∧ ((c < 2 ∨ 5 < c) ∧ (∀ a, a < q.2.2 → ∀ b, b < q.2.2 → a ≠ b → (q.2.1 a).2.1 ≠ (q.2.1 b).2.1) ∨ (∀ k, k < q.2.2 → (q.2.1 k).2.2.2 = true) ∧ (∀ a, a < q.2.2 → ∀ b, b < q.2.2 → a ≠ b → (q.2.1 a).1 ≠ (q.2.1 b).1 ∨ (q.2.1 a).2.1 ≠ (q.2.1 b).2.1)) ∧ q.1 = ab_nm c := by
  intro c q h
  match c, h with
  | 0, h => cases h; exact ⟨in_X0, tyX0_ok, .inl ⟨by decide, nmX0⟩, rfl⟩
  | 1, h => cases h; exact ⟨in_X1, tyX1_ok, .inl ⟨by decide, nmX1⟩, rfl⟩
  | 2, h => cases h; exact ⟨in_X3, tyX3_ok, .inr ⟨by decide +kernel, by decide +kernel⟩, rfl⟩
  | 3, h => cases h; exact ⟨in_X4, tyX4_ok, .inr ⟨by decide +kernel, by decide +kernel⟩, rfl⟩
  | 4, h => cases h; exact ⟨in_X5, tyX5_ok, .inr ⟨by decide +kernel, by decide +kernel⟩, rfl⟩
  | 5, h => cases h; exact ⟨in_X6, tyX6_ok, .inr ⟨by decide +kernel, by decide +kernel⟩, rfl⟩
  | 6, h => cases h; exact ⟨in_X7, tyX7_ok, .inl ⟨by decide, nmX7⟩, rfl⟩
  | 7, h => cases h; exact ⟨in_X8, tyX8_ok, .inl ⟨by decide, nmX8⟩, rfl⟩
  | 8, h => cases h; exact ⟨in_X9, tyX9_ok, .inl ⟨by decide, nmX9⟩, rfl⟩
  | 9, h => cases h; exact ⟨in_X10, tyX10_ok, .inl ⟨by decide, nmX10⟩, rfl⟩
  | 10, h => cases h; exact ⟨in_X12, tyX12_ok, .inl ⟨by decide, nmX12⟩, rfl⟩
  | 11, h => cases h; exact ⟨in_X14, tyX14_ok, .inl ⟨by decide, nmX14⟩, rfl⟩
  | 12, h => cases h; exact ⟨in_X15, tyX15_ok, .inl ⟨by decide, nmX15⟩, rfl⟩
  | 13, h => cases h; exact ⟨in_X16, tyX16_ok, .inl ⟨by decide, nmX16⟩, rfl⟩
  | 14, h => cases h; exact ⟨in_X17, tyX17_ok, .inl ⟨by decide, nmX17⟩, rfl⟩
  | 15, h => cases h; exact ⟨in_X18, tyX18_ok, .inl ⟨by decide, nmX18⟩, rfl⟩
  | c + 16, h => simp [vwCl] at h
theorem ab_nL : ∀ mid, (ab_me mid).2.2.2.1 ≤ 45 := by
  intro mid
  have h : ∀ e ∈ ab_meT, e.2.2.2.1 ≤ 45 := by decide +kernel
  unfold ab_me
  rw [List.getD_eq_getElem?_getD]
  cases hq : ab_meT[mid]? with
  | none => exact Nat.le_of_ble_eq_true rfl
  | some e => exact h e (List.mem_of_getElem? hq)
