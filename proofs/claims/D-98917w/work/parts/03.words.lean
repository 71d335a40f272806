set_option maxRecDepth 100000
abbrev cX0_init : ByteArray := prog_1_method_5_code
abbrev cX0_feed : ByteArray := prog_1_method_6_code
abbrev cX0_bytes : ByteArray := prog_1_method_7_code
abbrev cX0_river : ByteArray := prog_1_method_8_code
abbrev cX0_in : ByteArray := prog_1_method_1_code
abbrev cX0_fault : ByteArray := prog_1_method_9_code
abbrev cX0_span : ByteArray := prog_1_method_11_code
abbrev cX0_person : ByteArray := prog_1_method_12_code
abbrev cX0_isBody : ByteArray := prog_1_method_10_code
abbrev cX0_has : ByteArray := prog_1_method_2_code
abbrev cX0_why : ByteArray := prog_1_method_13_code
abbrev cX0_leads : ByteArray := prog_1_method_4_code
abbrev cX0_isAllowed : ByteArray := prog_1_method_3_code
abbrev cX0_act : ByteArray := prog_1_method_15_code
abbrev cX0_keeps : ByteArray := prog_1_method_14_code
abbrev cX0_tell : ByteArray := prog_1_method_16_code
abbrev cX0_fog : ByteArray := prog_1_method_17_code
abbrev cX0_hours : ByteArray := prog_1_method_18_code
abbrev cX0_undo : ByteArray := prog_1_method_19_code
abbrev cX0_judge : ByteArray := prog_1_method_21_code
abbrev cX0_trayFault : ByteArray := prog_1_method_75_code
abbrev cX0_isTray : ByteArray := prog_1_method_74_code
abbrev cX0_goes : ByteArray := prog_1_method_20_code
abbrev cX0_perform : ByteArray := prog_1_method_22_code
abbrev cX0_year : ByteArray := prog_1_method_25_code
abbrev cX0_told : ByteArray := prog_1_method_24_code
abbrev cX0_draw : ByteArray := prog_1_method_23_code
abbrev cX0_soonest : ByteArray := prog_1_method_35_code
abbrev cX0_isAsked : ByteArray := prog_1_method_33_code
abbrev cX0_laysOwn : ByteArray := prog_1_method_34_code
abbrev cX0_laysTables : ByteArray := prog_1_method_26_code
abbrev cX0_asksOwn : ByteArray := prog_1_method_27_code
abbrev cX0_hoursFrom : ByteArray := prog_1_method_32_code
abbrev cX0_onward : ByteArray := prog_1_method_31_code
abbrev cX0_hourIn : ByteArray := prog_1_method_28_code
abbrev cX0_fogIn : ByteArray := prog_1_method_29_code
abbrev cX0_leadsIn : ByteArray := prog_1_method_30_code
abbrev cX0_way : ByteArray := prog_1_method_38_code
abbrev cX0_laysWay : ByteArray := prog_1_method_36_code
abbrev cX0_isGood : ByteArray := prog_1_method_37_code
abbrev cX0_ways : ByteArray := prog_1_method_39_code
abbrev cX0_counts : ByteArray := prog_1_method_40_code
abbrev cX0_reach : ByteArray := prog_1_method_42_code
abbrev cX0_reachOf : ByteArray := prog_1_method_41_code
abbrev cX0_meet : ByteArray := prog_1_method_45_code
abbrev cX0_areTwo : ByteArray := prog_1_method_44_code
abbrev cX0_meets : ByteArray := prog_1_method_43_code
abbrev cX0_meetAt : ByteArray := prog_1_method_46_code
abbrev cX0_inTime : ByteArray := prog_1_method_49_code
abbrev cX0_inTimeSet : ByteArray := prog_1_method_48_code
abbrev cX0_isInTime : ByteArray := prog_1_method_47_code
abbrev cX0_spare : ByteArray := prog_1_method_50_code
abbrev cX0_needs : ByteArray := prog_1_method_51_code
abbrev cX0_moves : ByteArray := prog_1_method_53_code
abbrev cX0_movesOf : ByteArray := prog_1_method_52_code
abbrev cX0_best : ByteArray := prog_1_method_57_code
abbrev cX0_laysWeeks : ByteArray := prog_1_method_56_code
abbrev cX0_goesWeeks : ByteArray := prog_1_method_54_code
abbrev cX0_sees : ByteArray := prog_1_method_55_code
abbrev cX0_weeks : ByteArray := prog_1_method_58_code
abbrev cX0_change : ByteArray := prog_1_method_59_code
abbrev cX0_shift : ByteArray := prog_1_method_60_code
abbrev cX0_fits : ByteArray := prog_1_method_65_code
abbrev cX0_seenFault : ByteArray := prog_1_method_61_code
abbrev cX0_fitting : ByteArray := prog_1_method_64_code
abbrev cX0_firstOdd : ByteArray := prog_1_method_63_code
abbrev cX0_spots : ByteArray := prog_1_method_62_code
abbrev cX0_surest : ByteArray := prog_1_method_66_code
abbrev cX0_odd : ByteArray := prog_1_method_67_code
abbrev cX0_chance : ByteArray := prog_1_method_72_code
abbrev cX0_chanceOf : ByteArray := prog_1_method_70_code
abbrev cX0_tens : ByteArray := prog_1_method_68_code
abbrev cX0_likeliest : ByteArray := prog_1_method_69_code
abbrev cX0_common : ByteArray := prog_1_method_71_code
abbrev cX0_likely : ByteArray := prog_1_method_73_code
abbrev cX0_numbers : ByteArray := prog_1_method_76_code
abbrev cX0_write : ByteArray := prog_1_method_77_code
abbrev cX0_lists : ByteArray := prog_1_method_78_code
abbrev cX0_image : ByteArray := prog_1_method_79_code
abbrev cX0_restore : ByteArray := prog_1_method_80_code
abbrev cX0_count : ByteArray := prog_1_method_82_code
abbrev cX0_riders : ByteArray := prog_1_method_81_code
def RX0 : String := "MovedSpan"
def TX0 : u_T := fun k => match k with
  | 0 => ("MovedSpan", "its", "LMovedSpan$River;", false)
  | 1 => ("MovedSpan", "acts", "[LMovedSpan$Act;", true)
  | 2 => ("MovedSpan", "now", "LMovedSpan$State;", true)
  | 3 => ("MovedSpan", "thought", "LMovedSpan$State;", true)
  | 4 => ("MovedSpan", "tape", "[B", true)
  | 5 => ("MovedSpan", "taped", "I", false)
  | 6 => ("MovedSpan", "faultKind", "I", false)
  | 7 => ("MovedSpan", "faultPlace", "I", false)
  | 8 => ("MovedSpan", "undos", "[LMovedSpan$State;", true)
  | 9 => ("MovedSpan", "undoMany", "I", false)
  | 10 => ("MovedSpan", "undoAt", "I", false)
  | 11 => ("MovedSpan", "x", "I", false)
  | 12 => ("MovedSpan", "served", "[I", true)
  | 13 => ("MovedSpan", "walked", "[I", true)
  | 14 => ("MovedSpan", "asked", "[I", true)
  | 15 => ("MovedSpan", "good", "[I", true)
  | 16 => ("MovedSpan", "wayActs", "[I", true)
  | 17 => ("MovedSpan", "many", "[J", true)
  | 18 => ("MovedSpan", "manyThen", "[J", true)
  | 19 => ("MovedSpan", "meetSpots", "I", false)
  | 20 => ("MovedSpan", "bestWeek", "[I", true)
  | 21 => ("MovedSpan", "bestMany", "I", false)
  | 22 => ("MovedSpan", "bestMoves", "I", false)
  | 23 => ("MovedSpan", "allMany", "I", false)
  | 24 => ("MovedSpan", "chances", "[J", true)
  | 25 => ("MovedSpan", "trays", "[LMovedSpan$Numbers;", true)
  | 26 => ("MovedSpan", "rivers", "[LMovedSpan$River;", true)
  | _ => ("MovedSpan", "states", "[LMovedSpan$State;", true)
def tyX0 : Nat → FieldType := fun k => match k with
  | 0 => .object "MovedSpan$River"
  | 1 => .array (.object "MovedSpan$Act")
  | 2 => .object "MovedSpan$State"
  | 3 => .object "MovedSpan$State"
  | 4 => .array .byte
  | 5 => .int
  | 6 => .int
  | 7 => .int
  | 8 => .array (.object "MovedSpan$State")
  | 9 => .int
  | 10 => .int
  | 11 => .int
  | 12 => .array .int
  | 13 => .array .int
  | 14 => .array .int
  | 15 => .array .int
  | 16 => .array .int
  | 17 => .array .long
  | 18 => .array .long
  | 19 => .int
  | 20 => .array .int
  | 21 => .int
  | 22 => .int
  | 23 => .int
  | 24 => .array .long
  | 25 => .array (.object "MovedSpan$Numbers")
  | 26 => .array (.object "MovedSpan$River")
  | _ => .array (.object "MovedSpan$State")
abbrev wsX00 : List Cond := u_ws RX0 TX0 28
theorem nmX0 : ∀ a, a < 28 → ∀ b, b < 28 → a ≠ b → (TX0 a).2.1 ≠ (TX0 b).2.1 := by decide +kernel
theorem tyX0_ok : ∀ k, k < 28 → parseFieldDescriptor (TX0 k).2.2.1 = some (tyX0 k) := by decide +kernel
def yX0_init : MethodName := ⟨RX0, "<init>", "()V"⟩
def yX0_feed : MethodName := ⟨RX0, "feed", "(IIIII)I"⟩
def yX0_bytes : MethodName := ⟨RX0, "bytes", "(I)V"⟩
def yX0_river : MethodName := ⟨RX0, "river", "(I)I"⟩
def yX0_in : MethodName := ⟨RX0, "in", "(JJJ)Z"⟩
def yX0_fault : MethodName := ⟨RX0, "fault", "(I)I"⟩
def yX0_span : MethodName := ⟨RX0, "span", "(I)I"⟩
def yX0_person : MethodName := ⟨RX0, "person", "(II)I"⟩
def yX0_isBody : MethodName := ⟨RX0, "isBody", "(I)Z"⟩
def yX0_has : MethodName := ⟨RX0, "has", "(II)Z"⟩
def yX0_why : MethodName := ⟨RX0, "why", "(II)I"⟩
def yX0_leads : MethodName := ⟨RX0, "leads", "(III)I"⟩
def yX0_isAllowed : MethodName := ⟨RX0, "isAllowed", "(IIIIII)Z"⟩
def yX0_act : MethodName := ⟨RX0, "act", "(II)I"⟩
def yX0_keeps : MethodName := ⟨RX0, "keeps", "()V"⟩
def yX0_tell : MethodName := ⟨RX0, "tell", "(II)I"⟩
def yX0_fog : MethodName := ⟨RX0, "fog", "(I)I"⟩
def yX0_hours : MethodName := ⟨RX0, "hours", "(I)I"⟩
def yX0_undo : MethodName := ⟨RX0, "undo", "(I)I"⟩
def yX0_judge : MethodName := ⟨RX0, "judge", "(II)I"⟩
def yX0_trayFault : MethodName := ⟨RX0, "trayFault", "(I)I"⟩
def yX0_isTray : MethodName := ⟨RX0, "isTray", "(I)Z"⟩
def yX0_goes : MethodName := ⟨RX0, "goes", "(LMovedSpan$Numbers;)I"⟩
def yX0_perform : MethodName := ⟨RX0, "perform", "(I)I"⟩
def yX0_year : MethodName := ⟨RX0, "year", "(II)I"⟩
def yX0_told : MethodName := ⟨RX0, "told", "()I"⟩
def yX0_draw : MethodName := ⟨RX0, "draw", "(I)I"⟩
def yX0_soonest : MethodName := ⟨RX0, "soonest", "(II)I"⟩
def yX0_isAsked : MethodName := ⟨RX0, "isAsked", "(II)Z"⟩
def yX0_laysOwn : MethodName := ⟨RX0, "laysOwn", "()V"⟩
def yX0_laysTables : MethodName := ⟨RX0, "laysTables", "()V"⟩
def yX0_asksOwn : MethodName := ⟨RX0, "asksOwn", "()V"⟩
def yX0_hoursFrom : MethodName := ⟨RX0, "hoursFrom", "(IIII)I"⟩
def yX0_onward : MethodName := ⟨RX0, "onward", "(III)I"⟩
def yX0_hourIn : MethodName := ⟨RX0, "hourIn", "(I)I"⟩
def yX0_fogIn : MethodName := ⟨RX0, "fogIn", "(I)I"⟩
def yX0_leadsIn : MethodName := ⟨RX0, "leadsIn", "(IIIII)I"⟩
def yX0_way : MethodName := ⟨RX0, "way", "(III)I"⟩
def yX0_laysWay : MethodName := ⟨RX0, "laysWay", "(II)I"⟩
def yX0_isGood : MethodName := ⟨RX0, "isGood", "(II)Z"⟩
def yX0_ways : MethodName := ⟨RX0, "ways", "(III)J"⟩
def yX0_counts : MethodName := ⟨RX0, "counts", "(IJ)V"⟩
def yX0_reach : MethodName := ⟨RX0, "reach", "(II)I"⟩
def yX0_reachOf : MethodName := ⟨RX0, "reachOf", "(II)I"⟩
def yX0_meet : MethodName := ⟨RX0, "meet", "(II)I"⟩
def yX0_areTwo : MethodName := ⟨RX0, "areTwo", "(II)Z"⟩
def yX0_meets : MethodName := ⟨RX0, "meets", "(II)I"⟩
def yX0_meetAt : MethodName := ⟨RX0, "meetAt", "(II)I"⟩
def yX0_inTime : MethodName := ⟨RX0, "inTime", "()I"⟩
def yX0_inTimeSet : MethodName := ⟨RX0, "inTimeSet", "()I"⟩
def yX0_isInTime : MethodName := ⟨RX0, "isInTime", "(II)Z"⟩
def yX0_spare : MethodName := ⟨RX0, "spare", "(I)I"⟩
def yX0_needs : MethodName := ⟨RX0, "needs", "(I)I"⟩
def yX0_moves : MethodName := ⟨RX0, "moves", "()I"⟩
def yX0_movesOf : MethodName := ⟨RX0, "movesOf", "()I"⟩
def yX0_best : MethodName := ⟨RX0, "best", "(I)I"⟩
def yX0_laysWeeks : MethodName := ⟨RX0, "laysWeeks", "()V"⟩
def yX0_goesWeeks : MethodName := ⟨RX0, "goesWeeks", "(I)V"⟩
def yX0_sees : MethodName := ⟨RX0, "sees", "()V"⟩
def yX0_weeks : MethodName := ⟨RX0, "weeks", "()I"⟩
def yX0_change : MethodName := ⟨RX0, "change", "()I"⟩
def yX0_shift : MethodName := ⟨RX0, "shift", "()I"⟩
def yX0_fits : MethodName := ⟨RX0, "fits", "(III)I"⟩
def yX0_seenFault : MethodName := ⟨RX0, "seenFault", "(II)I"⟩
def yX0_fitting : MethodName := ⟨RX0, "fitting", "(LMovedSpan$Numbers;II)I"⟩
def yX0_firstOdd : MethodName := ⟨RX0, "firstOdd", "(LMovedSpan$Numbers;I)I"⟩
def yX0_spots : MethodName := ⟨RX0, "spots", "()I"⟩
def yX0_surest : MethodName := ⟨RX0, "surest", "(II)I"⟩
def yX0_odd : MethodName := ⟨RX0, "odd", "(II)I"⟩
def yX0_chance : MethodName := ⟨RX0, "chance", "(IIII)J"⟩
def yX0_chanceOf : MethodName := ⟨RX0, "chanceOf", "(III)J"⟩
def yX0_tens : MethodName := ⟨RX0, "tens", "(I)J"⟩
def yX0_likeliest : MethodName := ⟨RX0, "likeliest", "(IIIII)J"⟩
def yX0_common : MethodName := ⟨RX0, "common", "(JJ)J"⟩
def yX0_likely : MethodName := ⟨RX0, "likely", "(III)I"⟩
def yX0_numbers : MethodName := ⟨RX0, "numbers", "(III)I"⟩
def yX0_write : MethodName := ⟨RX0, "write", "(IIJ)J"⟩
def yX0_lists : MethodName := ⟨RX0, "lists", "(III)I"⟩
def yX0_image : MethodName := ⟨RX0, "image", "(I)I"⟩
def yX0_restore : MethodName := ⟨RX0, "restore", "(I)I"⟩
def yX0_count : MethodName := ⟨RX0, "count", "(I)I"⟩
def yX0_riders : MethodName := ⟨RX0, "riders", "()I"⟩
theorem q137 : (Jvm.Cond.initialized "MovedSpan") ∈ lw_all := lw_g (lw_at lw_m1 1 rfl) rfl
theorem q172 : (Jvm.Cond.instantiable "MovedSpan" (28 : Nat)) ∈ lw_all := lw_g (lw_at lw_m1 36 rfl) rfl
theorem q174 : (Jvm.Cond.instanceMethod ({ cls := "MovedSpan", name := "<init>", desc := "()V" } : Jvm.MethodName)) ∈ lw_all := lw_g (lw_at lw_m1 38 rfl) rfl
theorem q175 : (Jvm.Cond.code ({ cls := "MovedSpan", name := "<init>", desc := "()V" } : Jvm.MethodName) prog_1_method_5_code (1 : Nat) (Option.none : Option Jvm.ClassFile.FieldType)) ∈ lw_all := lw_g (lw_at lw_m1 39 rfl) rfl
theorem q176 : (Jvm.Cond.methodLink "MovedSpan" (34 : Nat) ({ cls := "java/lang/Object", name := "<init>", desc := "()V" } : Jvm.MethodName)) ∈ lw_all := lw_g (lw_at lw_m1 40 rfl) rfl
theorem q179 : (Jvm.Cond.classLink "MovedSpan" (22 : Nat) "MovedSpan$River") ∈ lw_all := lw_g (lw_at lw_m1 43 rfl) rfl
theorem q181 : (Jvm.Cond.methodLinkNest "MovedSpan" (40 : Nat) ({ cls := "MovedSpan$River", name := "<init>", desc := "()V" } : Jvm.MethodName) "MovedSpan") ∈ lw_tbl := lw_at lw_m1 45 rfl
theorem q192 : (Jvm.Cond.fieldLinkNest "MovedSpan" (176 : Nat) "MovedSpan$River" "load" "[I" "MovedSpan") ∈ lw_tbl := lw_at lw_m1 56 rfl
theorem q196 : (Jvm.Cond.fieldLinkNest "MovedSpan" (179 : Nat) "MovedSpan$River" "goal" "[I" "MovedSpan") ∈ lw_tbl := lw_at lw_m1 60 rfl
theorem q200 : (Jvm.Cond.fieldLinkNest "MovedSpan" (182 : Nat) "MovedSpan$River" "by" "[I" "MovedSpan") ∈ lw_tbl := lw_at lw_m1 64 rfl
theorem q207 : (Jvm.Cond.fieldLinkNest "MovedSpan" (222 : Nat) "MovedSpan$River" "gaps" "I" "MovedSpan") ∈ lw_tbl := lw_at lw_m1 71 rfl
theorem q211 : (Jvm.Cond.fieldLinkNest "MovedSpan" (217 : Nat) "MovedSpan$River" "week" "I" "MovedSpan") ∈ lw_tbl := lw_at lw_m1 75 rfl
theorem q214 : (Jvm.Cond.fieldLinkNest "MovedSpan" (160 : Nat) "MovedSpan$River" "people" "I" "MovedSpan") ∈ lw_tbl := lw_at lw_m1 78 rfl
theorem q217 : (Jvm.Cond.fieldLinkNest "MovedSpan" (404 : Nat) "MovedSpan$River" "foggy" "I" "MovedSpan") ∈ lw_tbl := lw_at lw_m1 81 rfl
theorem q220 : (Jvm.Cond.fieldLinkNest "MovedSpan" (157 : Nat) "MovedSpan$River" "lines" "I" "MovedSpan") ∈ lw_tbl := lw_at lw_m1 84 rfl
theorem q256 : (Jvm.Cond.classLink "MovedSpan" (8 : Nat) "MovedSpan$Act") ∈ lw_all := lw_g (lw_at lw_m1 120 rfl) rfl
theorem q258 : (Jvm.Cond.classLink "MovedSpan" (41 : Nat) "MovedSpan$Walk") ∈ lw_all := lw_g (lw_at lw_m1 122 rfl) rfl
theorem q260 : (Jvm.Cond.methodLink "MovedSpan" (43 : Nat) ({ cls := "MovedSpan$Walk", name := "<init>", desc := "(LMovedSpan;I)V" } : Jvm.MethodName)) ∈ lw_all := lw_g (lw_at lw_m1 124 rfl) rfl
theorem q277 : (Jvm.Cond.classLink "MovedSpan" (46 : Nat) "MovedSpan$Cross") ∈ lw_all := lw_g (lw_at lw_m1 141 rfl) rfl
theorem q279 : (Jvm.Cond.methodLinkNest "MovedSpan" (48 : Nat) ({ cls := "MovedSpan$Cross", name := "<init>", desc := "(LMovedSpan;)V" } : Jvm.MethodName) "MovedSpan") ∈ lw_tbl := lw_at lw_m1 143 rfl
theorem q288 : (Jvm.Cond.classLink "MovedSpan" (51 : Nat) "MovedSpan$GetOn") ∈ lw_all := lw_g (lw_at lw_m1 152 rfl) rfl
theorem q290 : (Jvm.Cond.methodLinkNest "MovedSpan" (53 : Nat) ({ cls := "MovedSpan$GetOn", name := "<init>", desc := "(LMovedSpan;)V" } : Jvm.MethodName) "MovedSpan") ∈ lw_tbl := lw_at lw_m1 154 rfl
theorem q299 : (Jvm.Cond.classLink "MovedSpan" (54 : Nat) "MovedSpan$GetOff") ∈ lw_all := lw_g (lw_at lw_m1 163 rfl) rfl
theorem q301 : (Jvm.Cond.methodLink "MovedSpan" (56 : Nat) ({ cls := "MovedSpan$GetOff", name := "<init>", desc := "(LMovedSpan;I)V" } : Jvm.MethodName)) ∈ lw_all := lw_g (lw_at lw_m1 165 rfl) rfl
theorem q313 : (Jvm.Cond.classLink "MovedSpan" (57 : Nat) "MovedSpan$State") ∈ lw_all := lw_g (lw_at lw_m1 177 rfl) rfl
theorem q315 : (Jvm.Cond.methodLinkNest "MovedSpan" (59 : Nat) ({ cls := "MovedSpan$State", name := "<init>", desc := "(LMovedSpan;)V" } : Jvm.MethodName) "MovedSpan") ∈ lw_tbl := lw_at lw_m1 179 rfl
theorem q320 : (Jvm.Cond.fieldLinkNest "MovedSpan" (225 : Nat) "MovedSpan$State" "plan" "[I" "MovedSpan") ∈ lw_tbl := lw_at lw_m1 184 rfl
theorem q322 : (Jvm.Cond.fieldLinkNest "MovedSpan" (173 : Nat) "MovedSpan$State" "at" "[I" "MovedSpan") ∈ lw_tbl := lw_at lw_m1 186 rfl
theorem q324 : (Jvm.Cond.fieldLinkNest "MovedSpan" (192 : Nat) "MovedSpan$State" "told" "[I" "MovedSpan") ∈ lw_tbl := lw_at lw_m1 188 rfl
theorem q326 : (Jvm.Cond.fieldLinkNest "MovedSpan" (185 : Nat) "MovedSpan$State" "done" "I" "MovedSpan") ∈ lw_tbl := lw_at lw_m1 190 rfl
theorem q328 : (Jvm.Cond.fieldLinkNest "MovedSpan" (230 : Nat) "MovedSpan$State" "fog" "I" "MovedSpan") ∈ lw_tbl := lw_at lw_m1 192 rfl
theorem q330 : (Jvm.Cond.fieldLinkNest "MovedSpan" (260 : Nat) "MovedSpan$State" "hour" "I" "MovedSpan") ∈ lw_tbl := lw_at lw_m1 194 rfl
theorem q348 : (Jvm.Cond.classLink "MovedSpan" (108 : Nat) "MovedSpan$Numbers") ∈ lw_all := lw_g (lw_at lw_m1 212 rfl) rfl
theorem q351 : (Jvm.Cond.methodLinkNest "MovedSpan" (110 : Nat) ({ cls := "MovedSpan$Numbers", name := "<init>", desc := "()V" } : Jvm.MethodName) "MovedSpan") ∈ lw_tbl := lw_at lw_m1 215 rfl
theorem q356 : (Jvm.Cond.fieldLinkNest "MovedSpan" (425 : Nat) "MovedSpan$Numbers" "held" "Ljava/lang/Object;" "MovedSpan") ∈ lw_tbl := lw_at lw_m1 220 rfl
theorem q363 : (Jvm.Cond.methodLink "MovedSpan" (122 : Nat) ({ cls := "MovedSpan$State", name := "begins", desc := "()V" } : Jvm.MethodName)) ∈ lw_all := lw_g (lw_at lw_m1 227 rfl) rfl
theorem q376 : (Jvm.Cond.fieldLink "MovedSpan" (17 : Nat) "MovedSpan" "its" "LMovedSpan$River;") ∈ lw_all := lw_g (lw_at lw_m2 0 rfl) rfl
theorem q377 : (Jvm.Cond.fieldLink "MovedSpan" (1 : Nat) "MovedSpan" "acts" "[LMovedSpan$Act;") ∈ lw_all := lw_g (lw_at lw_m2 1 rfl) rfl
theorem q378 : (Jvm.Cond.fieldLink "MovedSpan" (60 : Nat) "MovedSpan" "now" "LMovedSpan$State;") ∈ lw_all := lw_g (lw_at lw_m2 2 rfl) rfl
theorem q379 : (Jvm.Cond.fieldLink "MovedSpan" (64 : Nat) "MovedSpan" "thought" "LMovedSpan$State;") ∈ lw_all := lw_g (lw_at lw_m2 3 rfl) rfl
theorem q381 : (Jvm.Cond.fieldLink "MovedSpan" (67 : Nat) "MovedSpan" "tape" "[B") ∈ lw_all := lw_g (lw_at lw_m2 5 rfl) rfl
theorem q382 : (Jvm.Cond.fieldLink "MovedSpan" (125 : Nat) "MovedSpan" "taped" "I") ∈ lw_all := lw_g (lw_at lw_m2 6 rfl) rfl
theorem q383 : (Jvm.Cond.fieldLink "MovedSpan" (145 : Nat) "MovedSpan" "faultKind" "I") ∈ lw_all := lw_g (lw_at lw_m2 7 rfl) rfl
theorem q384 : (Jvm.Cond.fieldLink "MovedSpan" (71 : Nat) "MovedSpan" "faultPlace" "I") ∈ lw_all := lw_g (lw_at lw_m2 8 rfl) rfl
theorem q385 : (Jvm.Cond.fieldLink "MovedSpan" (75 : Nat) "MovedSpan" "undos" "[LMovedSpan$State;") ∈ lw_all := lw_g (lw_at lw_m2 9 rfl) rfl
theorem q386 : (Jvm.Cond.fieldLink "MovedSpan" (154 : Nat) "MovedSpan" "undoMany" "I") ∈ lw_all := lw_g (lw_at lw_m2 10 rfl) rfl
theorem q387 : (Jvm.Cond.fieldLink "MovedSpan" (199 : Nat) "MovedSpan" "undoAt" "I") ∈ lw_all := lw_g (lw_at lw_m2 11 rfl) rfl
theorem q388 : (Jvm.Cond.fieldLink "MovedSpan" (264 : Nat) "MovedSpan" "x" "I") ∈ lw_all := lw_g (lw_at lw_m2 12 rfl) rfl
theorem q389 : (Jvm.Cond.fieldLink "MovedSpan" (79 : Nat) "MovedSpan" "served" "[I") ∈ lw_all := lw_g (lw_at lw_m2 13 rfl) rfl
theorem q390 : (Jvm.Cond.fieldLink "MovedSpan" (83 : Nat) "MovedSpan" "walked" "[I") ∈ lw_all := lw_g (lw_at lw_m2 14 rfl) rfl
theorem q391 : (Jvm.Cond.fieldLink "MovedSpan" (86 : Nat) "MovedSpan" "asked" "[I") ∈ lw_all := lw_g (lw_at lw_m2 15 rfl) rfl
theorem q392 : (Jvm.Cond.fieldLink "MovedSpan" (89 : Nat) "MovedSpan" "good" "[I") ∈ lw_all := lw_g (lw_at lw_m2 16 rfl) rfl
theorem q393 : (Jvm.Cond.fieldLink "MovedSpan" (92 : Nat) "MovedSpan" "wayActs" "[I") ∈ lw_all := lw_g (lw_at lw_m2 17 rfl) rfl
theorem q394 : (Jvm.Cond.fieldLink "MovedSpan" (95 : Nat) "MovedSpan" "many" "[J") ∈ lw_all := lw_g (lw_at lw_m2 18 rfl) rfl
theorem q395 : (Jvm.Cond.fieldLink "MovedSpan" (99 : Nat) "MovedSpan" "manyThen" "[J") ∈ lw_all := lw_g (lw_at lw_m2 19 rfl) rfl
theorem q396 : (Jvm.Cond.fieldLink "MovedSpan" (334 : Nat) "MovedSpan" "meetSpots" "I") ∈ lw_all := lw_g (lw_at lw_m2 20 rfl) rfl
theorem q397 : (Jvm.Cond.fieldLink "MovedSpan" (102 : Nat) "MovedSpan" "bestWeek" "[I") ∈ lw_all := lw_g (lw_at lw_m2 21 rfl) rfl
theorem q398 : (Jvm.Cond.fieldLink "MovedSpan" (372 : Nat) "MovedSpan" "bestMany" "I") ∈ lw_all := lw_g (lw_at lw_m2 22 rfl) rfl
theorem q399 : (Jvm.Cond.fieldLink "MovedSpan" (375 : Nat) "MovedSpan" "bestMoves" "I") ∈ lw_all := lw_g (lw_at lw_m2 23 rfl) rfl
theorem q400 : (Jvm.Cond.fieldLink "MovedSpan" (366 : Nat) "MovedSpan" "allMany" "I") ∈ lw_all := lw_g (lw_at lw_m2 24 rfl) rfl
theorem q401 : (Jvm.Cond.fieldLink "MovedSpan" (105 : Nat) "MovedSpan" "chances" "[J") ∈ lw_all := lw_g (lw_at lw_m2 25 rfl) rfl
theorem q402 : (Jvm.Cond.fieldLink "MovedSpan" (111 : Nat) "MovedSpan" "trays" "[LMovedSpan$Numbers;") ∈ lw_all := lw_g (lw_at lw_m2 26 rfl) rfl
theorem q403 : (Jvm.Cond.fieldLink "MovedSpan" (115 : Nat) "MovedSpan" "rivers" "[LMovedSpan$River;") ∈ lw_all := lw_g (lw_at lw_m2 27 rfl) rfl
theorem q404 : (Jvm.Cond.fieldLink "MovedSpan" (119 : Nat) "MovedSpan" "states" "[LMovedSpan$State;") ∈ lw_all := lw_g (lw_at lw_m2 28 rfl) rfl
theorem q405 : (Jvm.Cond.lays "MovedSpan" "MovedSpan" "its" "LMovedSpan$River;") ∈ lw_all := lw_g (lw_at lw_m2 29 rfl) rfl
theorem q406 : (Jvm.Cond.soleField "MovedSpan" "its") ∈ lw_all := lw_g (lw_at lw_m2 30 rfl) rfl
theorem q407 : (Jvm.Cond.laysFinal "MovedSpan" "MovedSpan" "acts" "[LMovedSpan$Act;") ∈ lw_all := lw_g (lw_at lw_m2 31 rfl) rfl
theorem q408 : (Jvm.Cond.soleField "MovedSpan" "acts") ∈ lw_all := lw_g (lw_at lw_m2 32 rfl) rfl
theorem q409 : (Jvm.Cond.laysFinal "MovedSpan" "MovedSpan" "now" "LMovedSpan$State;") ∈ lw_all := lw_g (lw_at lw_m2 33 rfl) rfl
theorem q410 : (Jvm.Cond.soleField "MovedSpan" "now") ∈ lw_all := lw_g (lw_at lw_m2 34 rfl) rfl
theorem q411 : (Jvm.Cond.laysFinal "MovedSpan" "MovedSpan" "thought" "LMovedSpan$State;") ∈ lw_all := lw_g (lw_at lw_m2 35 rfl) rfl
theorem q412 : (Jvm.Cond.soleField "MovedSpan" "thought") ∈ lw_all := lw_g (lw_at lw_m2 36 rfl) rfl
theorem q413 : (Jvm.Cond.laysFinal "MovedSpan" "MovedSpan" "tape" "[B") ∈ lw_all := lw_g (lw_at lw_m2 37 rfl) rfl
theorem q414 : (Jvm.Cond.soleField "MovedSpan" "tape") ∈ lw_all := lw_g (lw_at lw_m2 38 rfl) rfl
theorem q415 : (Jvm.Cond.lays "MovedSpan" "MovedSpan" "taped" "I") ∈ lw_all := lw_g (lw_at lw_m2 39 rfl) rfl
theorem q416 : (Jvm.Cond.soleField "MovedSpan" "taped") ∈ lw_all := lw_g (lw_at lw_m2 40 rfl) rfl
theorem q417 : (Jvm.Cond.lays "MovedSpan" "MovedSpan" "faultKind" "I") ∈ lw_all := lw_g (lw_at lw_m2 41 rfl) rfl
theorem q418 : (Jvm.Cond.soleField "MovedSpan" "faultKind") ∈ lw_all := lw_g (lw_at lw_m2 42 rfl) rfl
theorem q419 : (Jvm.Cond.lays "MovedSpan" "MovedSpan" "faultPlace" "I") ∈ lw_all := lw_g (lw_at lw_m2 43 rfl) rfl
theorem q420 : (Jvm.Cond.soleField "MovedSpan" "faultPlace") ∈ lw_all := lw_g (lw_at lw_m2 44 rfl) rfl
theorem q421 : (Jvm.Cond.laysFinal "MovedSpan" "MovedSpan" "undos" "[LMovedSpan$State;") ∈ lw_all := lw_g (lw_at lw_m2 45 rfl) rfl
theorem q422 : (Jvm.Cond.soleField "MovedSpan" "undos") ∈ lw_all := lw_g (lw_at lw_m2 46 rfl) rfl
theorem q423 : (Jvm.Cond.lays "MovedSpan" "MovedSpan" "undoMany" "I") ∈ lw_all := lw_g (lw_at lw_m2 47 rfl) rfl
theorem q424 : (Jvm.Cond.soleField "MovedSpan" "undoMany") ∈ lw_all := lw_g (lw_at lw_m2 48 rfl) rfl
theorem q425 : (Jvm.Cond.lays "MovedSpan" "MovedSpan" "undoAt" "I") ∈ lw_all := lw_g (lw_at lw_m2 49 rfl) rfl
theorem q426 : (Jvm.Cond.soleField "MovedSpan" "undoAt") ∈ lw_all := lw_g (lw_at lw_m2 50 rfl) rfl
theorem q427 : (Jvm.Cond.lays "MovedSpan" "MovedSpan" "x" "I") ∈ lw_all := lw_g (lw_at lw_m2 51 rfl) rfl
theorem q428 : (Jvm.Cond.soleField "MovedSpan" "x") ∈ lw_all := lw_g (lw_at lw_m2 52 rfl) rfl
theorem q429 : (Jvm.Cond.laysFinal "MovedSpan" "MovedSpan" "served" "[I") ∈ lw_all := lw_g (lw_at lw_m2 53 rfl) rfl
theorem q430 : (Jvm.Cond.soleField "MovedSpan" "served") ∈ lw_all := lw_g (lw_at lw_m2 54 rfl) rfl
theorem q431 : (Jvm.Cond.laysFinal "MovedSpan" "MovedSpan" "walked" "[I") ∈ lw_all := lw_g (lw_at lw_m2 55 rfl) rfl
theorem q432 : (Jvm.Cond.soleField "MovedSpan" "walked") ∈ lw_all := lw_g (lw_at lw_m2 56 rfl) rfl
theorem q433 : (Jvm.Cond.laysFinal "MovedSpan" "MovedSpan" "asked" "[I") ∈ lw_all := lw_g (lw_at lw_m2 57 rfl) rfl
theorem q434 : (Jvm.Cond.soleField "MovedSpan" "asked") ∈ lw_all := lw_g (lw_at lw_m2 58 rfl) rfl
theorem q435 : (Jvm.Cond.laysFinal "MovedSpan" "MovedSpan" "good" "[I") ∈ lw_all := lw_g (lw_at lw_m2 59 rfl) rfl
theorem q436 : (Jvm.Cond.soleField "MovedSpan" "good") ∈ lw_all := lw_g (lw_at lw_m2 60 rfl) rfl
theorem q437 : (Jvm.Cond.laysFinal "MovedSpan" "MovedSpan" "wayActs" "[I") ∈ lw_all := lw_g (lw_at lw_m2 61 rfl) rfl
theorem q438 : (Jvm.Cond.soleField "MovedSpan" "wayActs") ∈ lw_all := lw_g (lw_at lw_m2 62 rfl) rfl
theorem q439 : (Jvm.Cond.laysFinal "MovedSpan" "MovedSpan" "many" "[J") ∈ lw_all := lw_g (lw_at lw_m2 63 rfl) rfl
theorem q440 : (Jvm.Cond.soleField "MovedSpan" "many") ∈ lw_all := lw_g (lw_at lw_m2 64 rfl) rfl
theorem q441 : (Jvm.Cond.laysFinal "MovedSpan" "MovedSpan" "manyThen" "[J") ∈ lw_all := lw_g (lw_at lw_m2 65 rfl) rfl
theorem q442 : (Jvm.Cond.soleField "MovedSpan" "manyThen") ∈ lw_all := lw_g (lw_at lw_m2 66 rfl) rfl
theorem q443 : (Jvm.Cond.lays "MovedSpan" "MovedSpan" "meetSpots" "I") ∈ lw_all := lw_g (lw_at lw_m2 67 rfl) rfl
theorem q444 : (Jvm.Cond.soleField "MovedSpan" "meetSpots") ∈ lw_all := lw_g (lw_at lw_m2 68 rfl) rfl
theorem q445 : (Jvm.Cond.laysFinal "MovedSpan" "MovedSpan" "bestWeek" "[I") ∈ lw_all := lw_g (lw_at lw_m2 69 rfl) rfl
theorem q446 : (Jvm.Cond.soleField "MovedSpan" "bestWeek") ∈ lw_all := lw_g (lw_at lw_m2 70 rfl) rfl
theorem q447 : (Jvm.Cond.lays "MovedSpan" "MovedSpan" "bestMany" "I") ∈ lw_all := lw_g (lw_at lw_m2 71 rfl) rfl
theorem q448 : (Jvm.Cond.soleField "MovedSpan" "bestMany") ∈ lw_all := lw_g (lw_at lw_m2 72 rfl) rfl
theorem q449 : (Jvm.Cond.lays "MovedSpan" "MovedSpan" "bestMoves" "I") ∈ lw_all := lw_g (lw_at lw_m2 73 rfl) rfl
theorem q450 : (Jvm.Cond.soleField "MovedSpan" "bestMoves") ∈ lw_all := lw_g (lw_at lw_m2 74 rfl) rfl
theorem q451 : (Jvm.Cond.lays "MovedSpan" "MovedSpan" "allMany" "I") ∈ lw_all := lw_g (lw_at lw_m2 75 rfl) rfl
theorem q452 : (Jvm.Cond.soleField "MovedSpan" "allMany") ∈ lw_all := lw_g (lw_at lw_m2 76 rfl) rfl
theorem q453 : (Jvm.Cond.laysFinal "MovedSpan" "MovedSpan" "chances" "[J") ∈ lw_all := lw_g (lw_at lw_m2 77 rfl) rfl
theorem q454 : (Jvm.Cond.soleField "MovedSpan" "chances") ∈ lw_all := lw_g (lw_at lw_m2 78 rfl) rfl
theorem q455 : (Jvm.Cond.laysFinal "MovedSpan" "MovedSpan" "trays" "[LMovedSpan$Numbers;") ∈ lw_all := lw_g (lw_at lw_m2 79 rfl) rfl
theorem q456 : (Jvm.Cond.soleField "MovedSpan" "trays") ∈ lw_all := lw_g (lw_at lw_m2 80 rfl) rfl
theorem q457 : (Jvm.Cond.laysFinal "MovedSpan" "MovedSpan" "rivers" "[LMovedSpan$River;") ∈ lw_all := lw_g (lw_at lw_m2 81 rfl) rfl
theorem q458 : (Jvm.Cond.soleField "MovedSpan" "rivers") ∈ lw_all := lw_g (lw_at lw_m2 82 rfl) rfl
theorem q459 : (Jvm.Cond.laysFinal "MovedSpan" "MovedSpan" "states" "[LMovedSpan$State;") ∈ lw_all := lw_g (lw_at lw_m2 83 rfl) rfl
theorem q460 : (Jvm.Cond.soleField "MovedSpan" "states") ∈ lw_all := lw_g (lw_at lw_m2 84 rfl) rfl
theorem q461 : (Jvm.Cond.superclass "MovedSpan" "java/lang/Object") ∈ lw_all := lw_g (lw_at lw_m2 85 rfl) rfl
theorem q463 : (Jvm.Cond.instanceMethod ({ cls := "MovedSpan", name := "feed", desc := "(IIIII)I" } : Jvm.MethodName)) ∈ lw_all := lw_g (lw_at lw_m2 87 rfl) rfl
theorem q464 : (Jvm.Cond.selects "MovedSpan" ({ cls := "MovedSpan", name := "feed", desc := "(IIIII)I" } : Jvm.MethodName) ({ cls := "MovedSpan", name := "feed", desc := "(IIIII)I" } : Jvm.MethodName)) ∈ lw_all := lw_g (lw_at lw_m2 88 rfl) rfl
theorem q465 : (Jvm.Cond.code ({ cls := "MovedSpan", name := "feed", desc := "(IIIII)I" } : Jvm.MethodName) prog_1_method_6_code (6 : Nat) (Option.some Jvm.ClassFile.FieldType.int)) ∈ lw_all := lw_g (lw_at lw_m2 89 rfl) rfl
theorem q466 : (Jvm.Cond.methodLink "MovedSpan" (128 : Nat) ({ cls := "MovedSpan", name := "bytes", desc := "(I)V" } : Jvm.MethodName)) ∈ lw_all := lw_g (lw_at lw_m2 90 rfl) rfl
theorem q467 : (Jvm.Cond.privateMethod ({ cls := "MovedSpan", name := "bytes", desc := "(I)V" } : Jvm.MethodName)) ∈ lw_tbl := lw_at lw_m2 91 rfl
theorem q468 : (Jvm.Cond.instanceMethod ({ cls := "MovedSpan", name := "bytes", desc := "(I)V" } : Jvm.MethodName)) ∈ lw_all := lw_g (lw_at lw_m2 92 rfl) rfl
theorem q469 : (Jvm.Cond.code ({ cls := "MovedSpan", name := "bytes", desc := "(I)V" } : Jvm.MethodName) prog_1_method_7_code (3 : Nat) (Option.none : Option Jvm.ClassFile.FieldType)) ∈ lw_all := lw_g (lw_at lw_m2 93 rfl) rfl
theorem q471 : (Jvm.Cond.instanceMethod ({ cls := "MovedSpan", name := "river", desc := "(I)I" } : Jvm.MethodName)) ∈ lw_all := lw_g (lw_at lw_m2 95 rfl) rfl
theorem q472 : (Jvm.Cond.selects "MovedSpan" ({ cls := "MovedSpan", name := "river", desc := "(I)I" } : Jvm.MethodName) ({ cls := "MovedSpan", name := "river", desc := "(I)I" } : Jvm.MethodName)) ∈ lw_all := lw_g (lw_at lw_m2 96 rfl) rfl
theorem q473 : (Jvm.Cond.code ({ cls := "MovedSpan", name := "river", desc := "(I)I" } : Jvm.MethodName) prog_1_method_8_code (3 : Nat) (Option.some Jvm.ClassFile.FieldType.int)) ∈ lw_all := lw_g (lw_at lw_m2 97 rfl) rfl
theorem q474 : (Jvm.Cond.methodLink "MovedSpan" (132 : Nat) ({ cls := "MovedSpan", name := "in", desc := "(JJJ)Z" } : Jvm.MethodName)) ∈ lw_all := lw_g (lw_at lw_m2 98 rfl) rfl
theorem q475 : (Jvm.Cond.static ({ cls := "MovedSpan", name := "in", desc := "(JJJ)Z" } : Jvm.MethodName)) ∈ lw_all := lw_g (lw_at lw_m2 99 rfl) rfl
theorem q476 : (Jvm.Cond.code ({ cls := "MovedSpan", name := "in", desc := "(JJJ)Z" } : Jvm.MethodName) prog_1_method_1_code (6 : Nat) (Option.some Jvm.ClassFile.FieldType.boolean)) ∈ lw_all := lw_g (lw_at lw_m2 100 rfl) rfl
theorem q477 : (Jvm.Cond.classLink "MovedSpan" (136 : Nat) "MovedSpan$Reader") ∈ lw_all := lw_g (lw_at lw_m2 101 rfl) rfl
theorem q479 : (Jvm.Cond.methodLink "MovedSpan" (138 : Nat) ({ cls := "MovedSpan$Reader", name := "<init>", desc := "(LMovedSpan;I)V" } : Jvm.MethodName)) ∈ lw_all := lw_g (lw_at lw_m2 103 rfl) rfl
theorem q487 : (Jvm.Cond.fieldLinkNest "MovedSpan" (151 : Nat) "MovedSpan$Reader" "made" "LMovedSpan$River;" "MovedSpan") ∈ lw_tbl := lw_at lw_m2 111 rfl
theorem q493 : (Jvm.Cond.fieldLinkNest "MovedSpan" (142 : Nat) "MovedSpan$Reader" "fault" "I" "MovedSpan") ∈ lw_tbl := lw_at lw_m2 117 rfl
theorem q496 : (Jvm.Cond.fieldLinkNest "MovedSpan" (148 : Nat) "MovedSpan$Reader" "place" "I" "MovedSpan") ∈ lw_tbl := lw_at lw_m2 120 rfl
theorem q522 : (Jvm.Cond.methodLink "MovedSpan" (139 : Nat) ({ cls := "MovedSpan$Reader", name := "read", desc := "()V" } : Jvm.MethodName)) ∈ lw_all := lw_g (lw_at lw_m2 146 rfl) rfl
theorem q858 : (Jvm.Cond.instanceMethod ({ cls := "MovedSpan", name := "fault", desc := "(I)I" } : Jvm.MethodName)) ∈ lw_all := lw_g (lw_at lw_m4 2 rfl) rfl
theorem q859 : (Jvm.Cond.selects "MovedSpan" ({ cls := "MovedSpan", name := "fault", desc := "(I)I" } : Jvm.MethodName) ({ cls := "MovedSpan", name := "fault", desc := "(I)I" } : Jvm.MethodName)) ∈ lw_all := lw_g (lw_at lw_m4 3 rfl) rfl
theorem q860 : (Jvm.Cond.code ({ cls := "MovedSpan", name := "fault", desc := "(I)I" } : Jvm.MethodName) prog_1_method_9_code (2 : Nat) (Option.some Jvm.ClassFile.FieldType.int)) ∈ lw_all := lw_g (lw_at lw_m4 4 rfl) rfl
theorem q862 : (Jvm.Cond.instanceMethod ({ cls := "MovedSpan", name := "span", desc := "(I)I" } : Jvm.MethodName)) ∈ lw_all := lw_g (lw_at lw_m4 6 rfl) rfl
theorem q863 : (Jvm.Cond.selects "MovedSpan" ({ cls := "MovedSpan", name := "span", desc := "(I)I" } : Jvm.MethodName) ({ cls := "MovedSpan", name := "span", desc := "(I)I" } : Jvm.MethodName)) ∈ lw_all := lw_g (lw_at lw_m4 7 rfl) rfl
theorem q864 : (Jvm.Cond.code ({ cls := "MovedSpan", name := "span", desc := "(I)I" } : Jvm.MethodName) prog_1_method_11_code (2 : Nat) (Option.some Jvm.ClassFile.FieldType.int)) ∈ lw_all := lw_g (lw_at lw_m4 8 rfl) rfl
theorem q865 : (Jvm.Cond.constantLong "MovedSpan" (163 : Nat) (999 : Int64)) ∈ lw_all := lw_g (lw_at lw_m4 9 rfl) rfl
theorem q866 : (Jvm.Cond.methodLink "MovedSpan" (165 : Nat) ({ cls := "MovedSpan$State", name := "lies", desc := "(I)I" } : Jvm.MethodName)) ∈ lw_all := lw_g (lw_at lw_m4 10 rfl) rfl
theorem q871 : (Jvm.Cond.instanceMethod ({ cls := "MovedSpan", name := "person", desc := "(II)I" } : Jvm.MethodName)) ∈ lw_all := lw_g (lw_at lw_m4 15 rfl) rfl
theorem q872 : (Jvm.Cond.selects "MovedSpan" ({ cls := "MovedSpan", name := "person", desc := "(II)I" } : Jvm.MethodName) ({ cls := "MovedSpan", name := "person", desc := "(II)I" } : Jvm.MethodName)) ∈ lw_all := lw_g (lw_at lw_m4 16 rfl) rfl
theorem q873 : (Jvm.Cond.code ({ cls := "MovedSpan", name := "person", desc := "(II)I" } : Jvm.MethodName) prog_1_method_12_code (3 : Nat) (Option.some Jvm.ClassFile.FieldType.int)) ∈ lw_all := lw_g (lw_at lw_m4 17 rfl) rfl
theorem q874 : (Jvm.Cond.methodLink "MovedSpan" (169 : Nat) ({ cls := "MovedSpan", name := "isBody", desc := "(I)Z" } : Jvm.MethodName)) ∈ lw_all := lw_g (lw_at lw_m4 18 rfl) rfl
theorem q875 : (Jvm.Cond.privateMethod ({ cls := "MovedSpan", name := "isBody", desc := "(I)Z" } : Jvm.MethodName)) ∈ lw_tbl := lw_at lw_m4 19 rfl
theorem q876 : (Jvm.Cond.instanceMethod ({ cls := "MovedSpan", name := "isBody", desc := "(I)Z" } : Jvm.MethodName)) ∈ lw_all := lw_g (lw_at lw_m4 20 rfl) rfl
theorem q877 : (Jvm.Cond.code ({ cls := "MovedSpan", name := "isBody", desc := "(I)Z" } : Jvm.MethodName) prog_1_method_10_code (2 : Nat) (Option.some Jvm.ClassFile.FieldType.boolean)) ∈ lw_all := lw_g (lw_at lw_m4 21 rfl) rfl
theorem q878 : (Jvm.Cond.methodLink "MovedSpan" (188 : Nat) ({ cls := "MovedSpan", name := "has", desc := "(II)Z" } : Jvm.MethodName)) ∈ lw_all := lw_g (lw_at lw_m4 22 rfl) rfl
theorem q879 : (Jvm.Cond.static ({ cls := "MovedSpan", name := "has", desc := "(II)Z" } : Jvm.MethodName)) ∈ lw_all := lw_g (lw_at lw_m4 23 rfl) rfl
theorem q880 : (Jvm.Cond.code ({ cls := "MovedSpan", name := "has", desc := "(II)Z" } : Jvm.MethodName) prog_1_method_2_code (2 : Nat) (Option.some Jvm.ClassFile.FieldType.boolean)) ∈ lw_all := lw_g (lw_at lw_m4 24 rfl) rfl
theorem q882 : (Jvm.Cond.instanceMethod ({ cls := "MovedSpan", name := "why", desc := "(II)I" } : Jvm.MethodName)) ∈ lw_all := lw_g (lw_at lw_m4 26 rfl) rfl
theorem q883 : (Jvm.Cond.selects "MovedSpan" ({ cls := "MovedSpan", name := "why", desc := "(II)I" } : Jvm.MethodName) ({ cls := "MovedSpan", name := "why", desc := "(II)I" } : Jvm.MethodName)) ∈ lw_all := lw_g (lw_at lw_m4 27 rfl) rfl
theorem q884 : (Jvm.Cond.code ({ cls := "MovedSpan", name := "why", desc := "(II)I" } : Jvm.MethodName) prog_1_method_13_code (3 : Nat) (Option.some Jvm.ClassFile.FieldType.int)) ∈ lw_all := lw_g (lw_at lw_m4 28 rfl) rfl
theorem q885 : (Jvm.Cond.methodLink "MovedSpan" (195 : Nat) ({ cls := "MovedSpan$State", name := "whyAct", desc := "(JJ)I" } : Jvm.MethodName)) ∈ lw_all := lw_g (lw_at lw_m4 29 rfl) rfl
theorem q893 : (Jvm.Cond.privateMethod ({ cls := "MovedSpan", name := "leads", desc := "(III)I" } : Jvm.MethodName)) ∈ lw_tbl := lw_at lw_m4 37 rfl
theorem q894 : (Jvm.Cond.instanceMethod ({ cls := "MovedSpan", name := "leads", desc := "(III)I" } : Jvm.MethodName)) ∈ lw_all := lw_g (lw_at lw_m4 38 rfl) rfl
theorem q895 : (Jvm.Cond.code ({ cls := "MovedSpan", name := "leads", desc := "(III)I" } : Jvm.MethodName) prog_1_method_4_code (4 : Nat) (Option.some Jvm.ClassFile.FieldType.int)) ∈ lw_all := lw_g (lw_at lw_m4 39 rfl) rfl
theorem q896 : (Jvm.Cond.methodLink "MovedSpan" (31 : Nat) ({ cls := "MovedSpan$Act", name := "leads", desc := "(II)I" } : Jvm.MethodName)) ∈ lw_all := lw_g (lw_at lw_m4 40 rfl) rfl
theorem q913 : (Jvm.Cond.privateMethod ({ cls := "MovedSpan", name := "isAllowed", desc := "(IIIIII)Z" } : Jvm.MethodName)) ∈ lw_tbl := lw_at lw_m4 57 rfl
theorem q914 : (Jvm.Cond.instanceMethod ({ cls := "MovedSpan", name := "isAllowed", desc := "(IIIIII)Z" } : Jvm.MethodName)) ∈ lw_all := lw_g (lw_at lw_m4 58 rfl) rfl
theorem q915 : (Jvm.Cond.code ({ cls := "MovedSpan", name := "isAllowed", desc := "(IIIIII)Z" } : Jvm.MethodName) prog_1_method_3_code (8 : Nat) (Option.some Jvm.ClassFile.FieldType.boolean)) ∈ lw_all := lw_g (lw_at lw_m4 59 rfl) rfl
theorem q916 : (Jvm.Cond.methodLink "MovedSpan" (7 : Nat) ({ cls := "MovedSpan$Act", name := "gap", desc := "(II)I" } : Jvm.MethodName)) ∈ lw_all := lw_g (lw_at lw_m4 60 rfl) rfl
theorem q924 : (Jvm.Cond.methodLink "MovedSpan" (13 : Nat) ({ cls := "MovedSpan$Act", name := "isServed", desc := "()Z" } : Jvm.MethodName)) ∈ lw_all := lw_g (lw_at lw_m4 68 rfl) rfl
theorem q939 : (Jvm.Cond.methodLink "MovedSpan" (21 : Nat) ({ cls := "MovedSpan$River", name := "serves", desc := "(IIII)Z" } : Jvm.MethodName)) ∈ lw_all := lw_g (lw_at lw_m4 83 rfl) rfl
theorem q982 : (Jvm.Cond.methodLink "MovedSpan" (27 : Nat) ({ cls := "MovedSpan$River", name := "walks", desc := "(IIIII)Z" } : Jvm.MethodName)) ∈ lw_all := lw_g (lw_at lw_m4 126 rfl) rfl
theorem q987 : (Jvm.Cond.instanceMethod ({ cls := "MovedSpan", name := "act", desc := "(II)I" } : Jvm.MethodName)) ∈ lw_all := lw_g (lw_at lw_m4 131 rfl) rfl
theorem q988 : (Jvm.Cond.selects "MovedSpan" ({ cls := "MovedSpan", name := "act", desc := "(II)I" } : Jvm.MethodName) ({ cls := "MovedSpan", name := "act", desc := "(II)I" } : Jvm.MethodName)) ∈ lw_all := lw_g (lw_at lw_m4 132 rfl) rfl
theorem q989 : (Jvm.Cond.code ({ cls := "MovedSpan", name := "act", desc := "(II)I" } : Jvm.MethodName) prog_1_method_15_code (4 : Nat) (Option.some Jvm.ClassFile.FieldType.int)) ∈ lw_all := lw_g (lw_at lw_m4 133 rfl) rfl
theorem q990 : (Jvm.Cond.methodLink "MovedSpan" (211 : Nat) ({ cls := "MovedSpan", name := "keeps", desc := "()V" } : Jvm.MethodName)) ∈ lw_all := lw_g (lw_at lw_m4 134 rfl) rfl
theorem q991 : (Jvm.Cond.privateMethod ({ cls := "MovedSpan", name := "keeps", desc := "()V" } : Jvm.MethodName)) ∈ lw_tbl := lw_at lw_m4 135 rfl
theorem q992 : (Jvm.Cond.instanceMethod ({ cls := "MovedSpan", name := "keeps", desc := "()V" } : Jvm.MethodName)) ∈ lw_all := lw_g (lw_at lw_m4 136 rfl) rfl
theorem q993 : (Jvm.Cond.code ({ cls := "MovedSpan", name := "keeps", desc := "()V" } : Jvm.MethodName) prog_1_method_14_code (1 : Nat) (Option.none : Option Jvm.ClassFile.FieldType)) ∈ lw_all := lw_g (lw_at lw_m4 137 rfl) rfl
theorem q994 : (Jvm.Cond.methodLink "MovedSpan" (202 : Nat) ({ cls := "MovedSpan$State", name := "be", desc := "(LMovedSpan$State;)LMovedSpan$State;" } : Jvm.MethodName)) ∈ lw_all := lw_g (lw_at lw_m4 138 rfl) rfl
theorem q998 : (Jvm.Cond.methodLink "MovedSpan" (206 : Nat) ({ cls := "java/lang/Math", name := "min", desc := "(II)I" } : Jvm.MethodName)) ∈ lw_all := lw_g (lw_at lw_m4 142 rfl) rfl
theorem q999 : (Jvm.Cond.methodLink "MovedSpan" (214 : Nat) ({ cls := "MovedSpan", name := "leads", desc := "(III)I" } : Jvm.MethodName)) ∈ lw_all := lw_g (lw_at lw_m4 143 rfl) rfl
theorem q1001 : (Jvm.Cond.instanceMethod ({ cls := "MovedSpan", name := "tell", desc := "(II)I" } : Jvm.MethodName)) ∈ lw_all := lw_g (lw_at lw_m4 145 rfl) rfl
theorem q1002 : (Jvm.Cond.selects "MovedSpan" ({ cls := "MovedSpan", name := "tell", desc := "(II)I" } : Jvm.MethodName) ({ cls := "MovedSpan", name := "tell", desc := "(II)I" } : Jvm.MethodName)) ∈ lw_all := lw_g (lw_at lw_m4 146 rfl) rfl
theorem q1003 : (Jvm.Cond.code ({ cls := "MovedSpan", name := "tell", desc := "(II)I" } : Jvm.MethodName) prog_1_method_16_code (4 : Nat) (Option.some Jvm.ClassFile.FieldType.int)) ∈ lw_all := lw_g (lw_at lw_m4 147 rfl) rfl
theorem q1004 : (Jvm.Cond.constantLong "MovedSpan" (220 : Nat) (-1 : Int64)) ∈ lw_all := lw_g (lw_at lw_m4 148 rfl) rfl
theorem q1006 : (Jvm.Cond.instanceMethod ({ cls := "MovedSpan", name := "fog", desc := "(I)I" } : Jvm.MethodName)) ∈ lw_all := lw_g (lw_at lw_m4 150 rfl) rfl
theorem q1007 : (Jvm.Cond.selects "MovedSpan" ({ cls := "MovedSpan", name := "fog", desc := "(I)I" } : Jvm.MethodName) ({ cls := "MovedSpan", name := "fog", desc := "(I)I" } : Jvm.MethodName)) ∈ lw_all := lw_g (lw_at lw_m4 151 rfl) rfl
theorem q1008 : (Jvm.Cond.code ({ cls := "MovedSpan", name := "fog", desc := "(I)I" } : Jvm.MethodName) prog_1_method_17_code (3 : Nat) (Option.some Jvm.ClassFile.FieldType.int)) ∈ lw_all := lw_g (lw_at lw_m4 152 rfl) rfl
theorem q1009 : (Jvm.Cond.constantLong "MovedSpan" (228 : Nat) (99 : Int64)) ∈ lw_all := lw_g (lw_at lw_m4 153 rfl) rfl
theorem q1011 : (Jvm.Cond.instanceMethod ({ cls := "MovedSpan", name := "hours", desc := "(I)I" } : Jvm.MethodName)) ∈ lw_all := lw_g (lw_at lw_m4 155 rfl) rfl
theorem q1012 : (Jvm.Cond.selects "MovedSpan" ({ cls := "MovedSpan", name := "hours", desc := "(I)I" } : Jvm.MethodName) ({ cls := "MovedSpan", name := "hours", desc := "(I)I" } : Jvm.MethodName)) ∈ lw_all := lw_g (lw_at lw_m4 156 rfl) rfl
theorem q1013 : (Jvm.Cond.code ({ cls := "MovedSpan", name := "hours", desc := "(I)I" } : Jvm.MethodName) prog_1_method_18_code (4 : Nat) (Option.some Jvm.ClassFile.FieldType.int)) ∈ lw_all := lw_g (lw_at lw_m4 157 rfl) rfl
theorem q1014 : (Jvm.Cond.constantLong "MovedSpan" (233 : Nat) (48 : Int64)) ∈ lw_all := lw_g (lw_at lw_m4 158 rfl) rfl
theorem q1015 : (Jvm.Cond.methodLink "MovedSpan" (235 : Nat) ({ cls := "MovedSpan$State", name := "goes", desc := "()I" } : Jvm.MethodName)) ∈ lw_all := lw_g (lw_at lw_m4 159 rfl) rfl
theorem q1028 : (Jvm.Cond.instanceMethod ({ cls := "MovedSpan", name := "undo", desc := "(I)I" } : Jvm.MethodName)) ∈ lw_all := lw_g (lw_at lw_m4 172 rfl) rfl
theorem q1029 : (Jvm.Cond.selects "MovedSpan" ({ cls := "MovedSpan", name := "undo", desc := "(I)I" } : Jvm.MethodName) ({ cls := "MovedSpan", name := "undo", desc := "(I)I" } : Jvm.MethodName)) ∈ lw_all := lw_g (lw_at lw_m4 173 rfl) rfl
theorem q1030 : (Jvm.Cond.code ({ cls := "MovedSpan", name := "undo", desc := "(I)I" } : Jvm.MethodName) prog_1_method_19_code (2 : Nat) (Option.some Jvm.ClassFile.FieldType.int)) ∈ lw_all := lw_g (lw_at lw_m4 174 rfl) rfl
theorem q1032 : (Jvm.Cond.instanceMethod ({ cls := "MovedSpan", name := "judge", desc := "(II)I" } : Jvm.MethodName)) ∈ lw_all := lw_g (lw_at lw_m4 176 rfl) rfl
theorem q1033 : (Jvm.Cond.selects "MovedSpan" ({ cls := "MovedSpan", name := "judge", desc := "(II)I" } : Jvm.MethodName) ({ cls := "MovedSpan", name := "judge", desc := "(II)I" } : Jvm.MethodName)) ∈ lw_all := lw_g (lw_at lw_m4 177 rfl) rfl
theorem q1034 : (Jvm.Cond.code ({ cls := "MovedSpan", name := "judge", desc := "(II)I" } : Jvm.MethodName) prog_1_method_21_code (6 : Nat) (Option.some Jvm.ClassFile.FieldType.int)) ∈ lw_all := lw_g (lw_at lw_m4 178 rfl) rfl
theorem q1035 : (Jvm.Cond.constantLong "MovedSpan" (252 : Nat) (3 : Int64)) ∈ lw_all := lw_g (lw_at lw_m4 179 rfl) rfl
theorem q1036 : (Jvm.Cond.methodLink "MovedSpan" (254 : Nat) ({ cls := "MovedSpan", name := "trayFault", desc := "(I)I" } : Jvm.MethodName)) ∈ lw_all := lw_g (lw_at lw_m4 180 rfl) rfl
theorem q1037 : (Jvm.Cond.privateMethod ({ cls := "MovedSpan", name := "trayFault", desc := "(I)I" } : Jvm.MethodName)) ∈ lw_tbl := lw_at lw_m4 181 rfl
theorem q1038 : (Jvm.Cond.instanceMethod ({ cls := "MovedSpan", name := "trayFault", desc := "(I)I" } : Jvm.MethodName)) ∈ lw_all := lw_g (lw_at lw_m4 182 rfl) rfl
theorem q1039 : (Jvm.Cond.code ({ cls := "MovedSpan", name := "trayFault", desc := "(I)I" } : Jvm.MethodName) prog_1_method_75_code (2 : Nat) (Option.some Jvm.ClassFile.FieldType.int)) ∈ lw_all := lw_g (lw_at lw_m4 183 rfl) rfl
theorem q1040 : (Jvm.Cond.methodLink "MovedSpan" (422 : Nat) ({ cls := "MovedSpan", name := "isTray", desc := "(I)Z" } : Jvm.MethodName)) ∈ lw_all := lw_g (lw_at lw_m4 184 rfl) rfl
theorem q1041 : (Jvm.Cond.static ({ cls := "MovedSpan", name := "isTray", desc := "(I)Z" } : Jvm.MethodName)) ∈ lw_all := lw_g (lw_at lw_m4 185 rfl) rfl
theorem q1042 : (Jvm.Cond.code ({ cls := "MovedSpan", name := "isTray", desc := "(I)Z" } : Jvm.MethodName) prog_1_method_74_code (1 : Nat) (Option.some Jvm.ClassFile.FieldType.boolean)) ∈ lw_all := lw_g (lw_at lw_m4 186 rfl) rfl
theorem q1043 : (Jvm.Cond.methodLink "MovedSpan" (257 : Nat) ({ cls := "MovedSpan", name := "goes", desc := "(LMovedSpan$Numbers;)I" } : Jvm.MethodName)) ∈ lw_all := lw_g (lw_at lw_m4 187 rfl) rfl
theorem q1044 : (Jvm.Cond.privateMethod ({ cls := "MovedSpan", name := "goes", desc := "(LMovedSpan$Numbers;)I" } : Jvm.MethodName)) ∈ lw_tbl := lw_at lw_m4 188 rfl
theorem q1045 : (Jvm.Cond.instanceMethod ({ cls := "MovedSpan", name := "goes", desc := "(LMovedSpan$Numbers;)I" } : Jvm.MethodName)) ∈ lw_all := lw_g (lw_at lw_m4 189 rfl) rfl
theorem q1046 : (Jvm.Cond.code ({ cls := "MovedSpan", name := "goes", desc := "(LMovedSpan$Numbers;)I" } : Jvm.MethodName) prog_1_method_20_code (3 : Nat) (Option.some Jvm.ClassFile.FieldType.int)) ∈ lw_all := lw_g (lw_at lw_m4 190 rfl) rfl
theorem q1047 : (Jvm.Cond.methodLink "MovedSpan" (239 : Nat) ({ cls := "MovedSpan$Numbers", name := "many", desc := "()I" } : Jvm.MethodName)) ∈ lw_all := lw_g (lw_at lw_m4 191 rfl) rfl
theorem q1055 : (Jvm.Cond.methodLink "MovedSpan" (241 : Nat) ({ cls := "MovedSpan$Numbers", name := "number", desc := "(I)J" } : Jvm.MethodName)) ∈ lw_all := lw_g (lw_at lw_m4 199 rfl) rfl
theorem q1059 : (Jvm.Cond.methodLink "MovedSpan" (245 : Nat) ({ cls := "MovedSpan$State", name := "why", desc := "(J)I" } : Jvm.MethodName)) ∈ lw_all := lw_g (lw_at lw_m4 203 rfl) rfl
theorem q1071 : (Jvm.Cond.methodLink "MovedSpan" (249 : Nat) ({ cls := "MovedSpan$State", name := "does", desc := "(I)V" } : Jvm.MethodName)) ∈ lw_all := lw_g (lw_at lw_m4 215 rfl) rfl
theorem q1077 : (Jvm.Cond.instanceMethod ({ cls := "MovedSpan", name := "perform", desc := "(I)I" } : Jvm.MethodName)) ∈ lw_all := lw_g (lw_at lw_m4 221 rfl) rfl
theorem q1078 : (Jvm.Cond.selects "MovedSpan" ({ cls := "MovedSpan", name := "perform", desc := "(I)I" } : Jvm.MethodName) ({ cls := "MovedSpan", name := "perform", desc := "(I)I" } : Jvm.MethodName)) ∈ lw_all := lw_g (lw_at lw_m4 222 rfl) rfl
theorem q1079 : (Jvm.Cond.code ({ cls := "MovedSpan", name := "perform", desc := "(I)I" } : Jvm.MethodName) prog_1_method_22_code (4 : Nat) (Option.some Jvm.ClassFile.FieldType.int)) ∈ lw_all := lw_g (lw_at lw_m4 223 rfl) rfl
theorem q1081 : (Jvm.Cond.instanceMethod ({ cls := "MovedSpan", name := "year", desc := "(II)I" } : Jvm.MethodName)) ∈ lw_all := lw_g (lw_at lw_m4 225 rfl) rfl
theorem q1082 : (Jvm.Cond.selects "MovedSpan" ({ cls := "MovedSpan", name := "year", desc := "(II)I" } : Jvm.MethodName) ({ cls := "MovedSpan", name := "year", desc := "(II)I" } : Jvm.MethodName)) ∈ lw_all := lw_g (lw_at lw_m4 226 rfl) rfl
theorem q1083 : (Jvm.Cond.code ({ cls := "MovedSpan", name := "year", desc := "(II)I" } : Jvm.MethodName) prog_1_method_25_code (6 : Nat) (Option.some Jvm.ClassFile.FieldType.int)) ∈ lw_all := lw_g (lw_at lw_m4 227 rfl) rfl
theorem q1084 : (Jvm.Cond.constantLong "MovedSpan" (270 : Nat) (40 : Int64)) ∈ lw_all := lw_g (lw_at lw_m4 228 rfl) rfl
theorem q1085 : (Jvm.Cond.methodLink "MovedSpan" (272 : Nat) ({ cls := "MovedSpan", name := "told", desc := "()I" } : Jvm.MethodName)) ∈ lw_all := lw_g (lw_at lw_m4 229 rfl) rfl
theorem q1086 : (Jvm.Cond.privateMethod ({ cls := "MovedSpan", name := "told", desc := "()I" } : Jvm.MethodName)) ∈ lw_tbl := lw_at lw_m4 230 rfl
theorem q1087 : (Jvm.Cond.instanceMethod ({ cls := "MovedSpan", name := "told", desc := "()I" } : Jvm.MethodName)) ∈ lw_all := lw_g (lw_at lw_m4 231 rfl) rfl
theorem q1088 : (Jvm.Cond.code ({ cls := "MovedSpan", name := "told", desc := "()I" } : Jvm.MethodName) prog_1_method_24_code (3 : Nat) (Option.some Jvm.ClassFile.FieldType.int)) ∈ lw_all := lw_g (lw_at lw_m4 232 rfl) rfl
theorem q1089 : (Jvm.Cond.methodLink "MovedSpan" (267 : Nat) ({ cls := "MovedSpan", name := "draw", desc := "(I)I" } : Jvm.MethodName)) ∈ lw_all := lw_g (lw_at lw_m4 233 rfl) rfl
theorem q1090 : (Jvm.Cond.privateMethod ({ cls := "MovedSpan", name := "draw", desc := "(I)I" } : Jvm.MethodName)) ∈ lw_tbl := lw_at lw_m4 234 rfl
theorem q1091 : (Jvm.Cond.instanceMethod ({ cls := "MovedSpan", name := "draw", desc := "(I)I" } : Jvm.MethodName)) ∈ lw_all := lw_g (lw_at lw_m4 235 rfl) rfl
theorem q1092 : (Jvm.Cond.code ({ cls := "MovedSpan", name := "draw", desc := "(I)I" } : Jvm.MethodName) prog_1_method_23_code (2 : Nat) (Option.some Jvm.ClassFile.FieldType.int)) ∈ lw_all := lw_g (lw_at lw_m4 236 rfl) rfl
theorem q1093 : (Jvm.Cond.constant "MovedSpan" (263 : Nat) (1103515245 : Int32)) ∈ lw_all := lw_g (lw_at lw_m4 237 rfl) rfl
theorem q1095 : (Jvm.Cond.instanceMethod ({ cls := "MovedSpan", name := "soonest", desc := "(II)I" } : Jvm.MethodName)) ∈ lw_all := lw_g (lw_at lw_m4 239 rfl) rfl
theorem q1096 : (Jvm.Cond.selects "MovedSpan" ({ cls := "MovedSpan", name := "soonest", desc := "(II)I" } : Jvm.MethodName) ({ cls := "MovedSpan", name := "soonest", desc := "(II)I" } : Jvm.MethodName)) ∈ lw_all := lw_g (lw_at lw_m5 0 rfl) rfl
theorem q1097 : (Jvm.Cond.code ({ cls := "MovedSpan", name := "soonest", desc := "(II)I" } : Jvm.MethodName) prog_1_method_35_code (3 : Nat) (Option.some Jvm.ClassFile.FieldType.int)) ∈ lw_all := lw_g (lw_at lw_m5 1 rfl) rfl
theorem q1098 : (Jvm.Cond.methodLink "MovedSpan" (303 : Nat) ({ cls := "MovedSpan", name := "isAsked", desc := "(II)Z" } : Jvm.MethodName)) ∈ lw_all := lw_g (lw_at lw_m5 2 rfl) rfl
theorem q1099 : (Jvm.Cond.privateMethod ({ cls := "MovedSpan", name := "isAsked", desc := "(II)Z" } : Jvm.MethodName)) ∈ lw_tbl := lw_at lw_m5 3 rfl
theorem q1100 : (Jvm.Cond.instanceMethod ({ cls := "MovedSpan", name := "isAsked", desc := "(II)Z" } : Jvm.MethodName)) ∈ lw_all := lw_g (lw_at lw_m5 4 rfl) rfl
theorem q1101 : (Jvm.Cond.code ({ cls := "MovedSpan", name := "isAsked", desc := "(II)Z" } : Jvm.MethodName) prog_1_method_33_code (3 : Nat) (Option.some Jvm.ClassFile.FieldType.boolean)) ∈ lw_all := lw_g (lw_at lw_m5 5 rfl) rfl
theorem q1102 : (Jvm.Cond.methodLink "MovedSpan" (293 : Nat) ({ cls := "MovedSpan$River", name := "isSpot", desc := "(J)Z" } : Jvm.MethodName)) ∈ lw_all := lw_g (lw_at lw_m5 6 rfl) rfl
theorem q1108 : (Jvm.Cond.methodLink "MovedSpan" (306 : Nat) ({ cls := "MovedSpan", name := "laysOwn", desc := "()V" } : Jvm.MethodName)) ∈ lw_all := lw_g (lw_at lw_m5 12 rfl) rfl
theorem q1109 : (Jvm.Cond.privateMethod ({ cls := "MovedSpan", name := "laysOwn", desc := "()V" } : Jvm.MethodName)) ∈ lw_tbl := lw_at lw_m5 13 rfl
theorem q1110 : (Jvm.Cond.instanceMethod ({ cls := "MovedSpan", name := "laysOwn", desc := "()V" } : Jvm.MethodName)) ∈ lw_all := lw_g (lw_at lw_m5 14 rfl) rfl
theorem q1111 : (Jvm.Cond.code ({ cls := "MovedSpan", name := "laysOwn", desc := "()V" } : Jvm.MethodName) prog_1_method_34_code (1 : Nat) (Option.none : Option Jvm.ClassFile.FieldType)) ∈ lw_all := lw_g (lw_at lw_m5 15 rfl) rfl
theorem q1112 : (Jvm.Cond.methodLink "MovedSpan" (297 : Nat) ({ cls := "MovedSpan", name := "laysTables", desc := "()V" } : Jvm.MethodName)) ∈ lw_all := lw_g (lw_at lw_m5 16 rfl) rfl
theorem q1113 : (Jvm.Cond.privateMethod ({ cls := "MovedSpan", name := "laysTables", desc := "()V" } : Jvm.MethodName)) ∈ lw_tbl := lw_at lw_m5 17 rfl
theorem q1114 : (Jvm.Cond.instanceMethod ({ cls := "MovedSpan", name := "laysTables", desc := "()V" } : Jvm.MethodName)) ∈ lw_all := lw_g (lw_at lw_m5 18 rfl) rfl
theorem q1115 : (Jvm.Cond.code ({ cls := "MovedSpan", name := "laysTables", desc := "()V" } : Jvm.MethodName) prog_1_method_26_code (6 : Nat) (Option.none : Option Jvm.ClassFile.FieldType)) ∈ lw_all := lw_g (lw_at lw_m5 19 rfl) rfl
theorem q1116 : (Jvm.Cond.methodLink "MovedSpan" (300 : Nat) ({ cls := "MovedSpan", name := "asksOwn", desc := "()V" } : Jvm.MethodName)) ∈ lw_all := lw_g (lw_at lw_m5 20 rfl) rfl
theorem q1117 : (Jvm.Cond.privateMethod ({ cls := "MovedSpan", name := "asksOwn", desc := "()V" } : Jvm.MethodName)) ∈ lw_tbl := lw_at lw_m5 21 rfl
theorem q1118 : (Jvm.Cond.instanceMethod ({ cls := "MovedSpan", name := "asksOwn", desc := "()V" } : Jvm.MethodName)) ∈ lw_all := lw_g (lw_at lw_m5 22 rfl) rfl
theorem q1119 : (Jvm.Cond.code ({ cls := "MovedSpan", name := "asksOwn", desc := "()V" } : Jvm.MethodName) prog_1_method_27_code (1 : Nat) (Option.none : Option Jvm.ClassFile.FieldType)) ∈ lw_all := lw_g (lw_at lw_m5 23 rfl) rfl
theorem q1120 : (Jvm.Cond.methodLink "MovedSpan" (274 : Nat) ({ cls := "java/lang/System", name := "arraycopy", desc := "(Ljava/lang/Object;ILjava/lang/Object;II)V" } : Jvm.MethodName)) ∈ lw_all := lw_g (lw_at lw_m5 24 rfl) rfl
theorem q1121 : (Jvm.Cond.methodLink "MovedSpan" (309 : Nat) ({ cls := "MovedSpan", name := "hoursFrom", desc := "(IIII)I" } : Jvm.MethodName)) ∈ lw_all := lw_g (lw_at lw_m5 25 rfl) rfl
theorem q1122 : (Jvm.Cond.privateMethod ({ cls := "MovedSpan", name := "hoursFrom", desc := "(IIII)I" } : Jvm.MethodName)) ∈ lw_tbl := lw_at lw_m5 26 rfl
theorem q1123 : (Jvm.Cond.instanceMethod ({ cls := "MovedSpan", name := "hoursFrom", desc := "(IIII)I" } : Jvm.MethodName)) ∈ lw_all := lw_g (lw_at lw_m5 27 rfl) rfl
theorem q1124 : (Jvm.Cond.code ({ cls := "MovedSpan", name := "hoursFrom", desc := "(IIII)I" } : Jvm.MethodName) prog_1_method_32_code (7 : Nat) (Option.some Jvm.ClassFile.FieldType.int)) ∈ lw_all := lw_g (lw_at lw_m5 28 rfl) rfl
theorem q1125 : (Jvm.Cond.methodLink "MovedSpan" (290 : Nat) ({ cls := "MovedSpan", name := "onward", desc := "(III)I" } : Jvm.MethodName)) ∈ lw_all := lw_g (lw_at lw_m5 29 rfl) rfl
theorem q1126 : (Jvm.Cond.privateMethod ({ cls := "MovedSpan", name := "onward", desc := "(III)I" } : Jvm.MethodName)) ∈ lw_tbl := lw_at lw_m5 30 rfl
theorem q1127 : (Jvm.Cond.instanceMethod ({ cls := "MovedSpan", name := "onward", desc := "(III)I" } : Jvm.MethodName)) ∈ lw_all := lw_g (lw_at lw_m5 31 rfl) rfl
theorem q1128 : (Jvm.Cond.code ({ cls := "MovedSpan", name := "onward", desc := "(III)I" } : Jvm.MethodName) prog_1_method_31_code (8 : Nat) (Option.some Jvm.ClassFile.FieldType.int)) ∈ lw_all := lw_g (lw_at lw_m5 32 rfl) rfl
theorem q1129 : (Jvm.Cond.methodLink "MovedSpan" (280 : Nat) ({ cls := "MovedSpan", name := "hourIn", desc := "(I)I" } : Jvm.MethodName)) ∈ lw_all := lw_g (lw_at lw_m5 33 rfl) rfl
theorem q1130 : (Jvm.Cond.privateMethod ({ cls := "MovedSpan", name := "hourIn", desc := "(I)I" } : Jvm.MethodName)) ∈ lw_tbl := lw_at lw_m5 34 rfl
theorem q1131 : (Jvm.Cond.instanceMethod ({ cls := "MovedSpan", name := "hourIn", desc := "(I)I" } : Jvm.MethodName)) ∈ lw_all := lw_g (lw_at lw_m5 35 rfl) rfl
theorem q1132 : (Jvm.Cond.code ({ cls := "MovedSpan", name := "hourIn", desc := "(I)I" } : Jvm.MethodName) prog_1_method_28_code (2 : Nat) (Option.some Jvm.ClassFile.FieldType.int)) ∈ lw_all := lw_g (lw_at lw_m5 36 rfl) rfl
theorem q1133 : (Jvm.Cond.methodLink "MovedSpan" (283 : Nat) ({ cls := "MovedSpan", name := "fogIn", desc := "(I)I" } : Jvm.MethodName)) ∈ lw_all := lw_g (lw_at lw_m5 37 rfl) rfl
theorem q1134 : (Jvm.Cond.privateMethod ({ cls := "MovedSpan", name := "fogIn", desc := "(I)I" } : Jvm.MethodName)) ∈ lw_tbl := lw_at lw_m5 38 rfl
theorem q1135 : (Jvm.Cond.instanceMethod ({ cls := "MovedSpan", name := "fogIn", desc := "(I)I" } : Jvm.MethodName)) ∈ lw_all := lw_g (lw_at lw_m5 39 rfl) rfl
theorem q1136 : (Jvm.Cond.code ({ cls := "MovedSpan", name := "fogIn", desc := "(I)I" } : Jvm.MethodName) prog_1_method_29_code (2 : Nat) (Option.some Jvm.ClassFile.FieldType.int)) ∈ lw_all := lw_g (lw_at lw_m5 40 rfl) rfl
theorem q1137 : (Jvm.Cond.methodLink "MovedSpan" (286 : Nat) ({ cls := "MovedSpan", name := "leadsIn", desc := "(IIIII)I" } : Jvm.MethodName)) ∈ lw_all := lw_g (lw_at lw_m5 41 rfl) rfl
theorem q1138 : (Jvm.Cond.privateMethod ({ cls := "MovedSpan", name := "leadsIn", desc := "(IIIII)I" } : Jvm.MethodName)) ∈ lw_tbl := lw_at lw_m5 42 rfl
theorem q1139 : (Jvm.Cond.instanceMethod ({ cls := "MovedSpan", name := "leadsIn", desc := "(IIIII)I" } : Jvm.MethodName)) ∈ lw_all := lw_g (lw_at lw_m5 43 rfl) rfl
theorem q1140 : (Jvm.Cond.code ({ cls := "MovedSpan", name := "leadsIn", desc := "(IIIII)I" } : Jvm.MethodName) prog_1_method_30_code (9 : Nat) (Option.some Jvm.ClassFile.FieldType.int)) ∈ lw_all := lw_g (lw_at lw_m5 44 rfl) rfl
theorem q1142 : (Jvm.Cond.instanceMethod ({ cls := "MovedSpan", name := "way", desc := "(III)I" } : Jvm.MethodName)) ∈ lw_all := lw_g (lw_at lw_m5 46 rfl) rfl
theorem q1143 : (Jvm.Cond.selects "MovedSpan" ({ cls := "MovedSpan", name := "way", desc := "(III)I" } : Jvm.MethodName) ({ cls := "MovedSpan", name := "way", desc := "(III)I" } : Jvm.MethodName)) ∈ lw_all := lw_g (lw_at lw_m5 47 rfl) rfl
theorem q1144 : (Jvm.Cond.code ({ cls := "MovedSpan", name := "way", desc := "(III)I" } : Jvm.MethodName) prog_1_method_38_code (4 : Nat) (Option.some Jvm.ClassFile.FieldType.int)) ∈ lw_all := lw_g (lw_at lw_m5 48 rfl) rfl
theorem q1145 : (Jvm.Cond.methodLink "MovedSpan" (316 : Nat) ({ cls := "MovedSpan", name := "laysWay", desc := "(II)I" } : Jvm.MethodName)) ∈ lw_all := lw_g (lw_at lw_m5 49 rfl) rfl
theorem q1146 : (Jvm.Cond.privateMethod ({ cls := "MovedSpan", name := "laysWay", desc := "(II)I" } : Jvm.MethodName)) ∈ lw_tbl := lw_at lw_m5 50 rfl
theorem q1147 : (Jvm.Cond.instanceMethod ({ cls := "MovedSpan", name := "laysWay", desc := "(II)I" } : Jvm.MethodName)) ∈ lw_all := lw_g (lw_at lw_m5 51 rfl) rfl
theorem q1148 : (Jvm.Cond.code ({ cls := "MovedSpan", name := "laysWay", desc := "(II)I" } : Jvm.MethodName) prog_1_method_36_code (7 : Nat) (Option.some Jvm.ClassFile.FieldType.int)) ∈ lw_all := lw_g (lw_at lw_m5 52 rfl) rfl
theorem q1149 : (Jvm.Cond.methodLink "MovedSpan" (313 : Nat) ({ cls := "MovedSpan", name := "isGood", desc := "(II)Z" } : Jvm.MethodName)) ∈ lw_all := lw_g (lw_at lw_m5 53 rfl) rfl
theorem q1150 : (Jvm.Cond.privateMethod ({ cls := "MovedSpan", name := "isGood", desc := "(II)Z" } : Jvm.MethodName)) ∈ lw_tbl := lw_at lw_m5 54 rfl
theorem q1151 : (Jvm.Cond.instanceMethod ({ cls := "MovedSpan", name := "isGood", desc := "(II)Z" } : Jvm.MethodName)) ∈ lw_all := lw_g (lw_at lw_m5 55 rfl) rfl
theorem q1152 : (Jvm.Cond.code ({ cls := "MovedSpan", name := "isGood", desc := "(II)Z" } : Jvm.MethodName) prog_1_method_37_code (3 : Nat) (Option.some Jvm.ClassFile.FieldType.boolean)) ∈ lw_all := lw_g (lw_at lw_m5 56 rfl) rfl
theorem q1154 : (Jvm.Cond.instanceMethod ({ cls := "MovedSpan", name := "ways", desc := "(III)J" } : Jvm.MethodName)) ∈ lw_all := lw_g (lw_at lw_m5 58 rfl) rfl
theorem q1155 : (Jvm.Cond.selects "MovedSpan" ({ cls := "MovedSpan", name := "ways", desc := "(III)J" } : Jvm.MethodName) ({ cls := "MovedSpan", name := "ways", desc := "(III)J" } : Jvm.MethodName)) ∈ lw_all := lw_g (lw_at lw_m5 59 rfl) rfl
theorem q1156 : (Jvm.Cond.code ({ cls := "MovedSpan", name := "ways", desc := "(III)J" } : Jvm.MethodName) prog_1_method_39_code (7 : Nat) (Option.some Jvm.ClassFile.FieldType.long)) ∈ lw_all := lw_g (lw_at lw_m5 60 rfl) rfl
theorem q1157 : (Jvm.Cond.constantLong "MovedSpan" (319 : Nat) (-2 : Int64)) ∈ lw_all := lw_g (lw_at lw_m5 61 rfl) rfl
theorem q1158 : (Jvm.Cond.constantLong "MovedSpan" (321 : Nat) (12 : Int64)) ∈ lw_all := lw_g (lw_at lw_m5 62 rfl) rfl
theorem q1159 : (Jvm.Cond.constantLong "MovedSpan" (323 : Nat) (-3 : Int64)) ∈ lw_all := lw_g (lw_at lw_m5 63 rfl) rfl
theorem q1160 : (Jvm.Cond.methodLink "MovedSpan" (325 : Nat) ({ cls := "MovedSpan", name := "counts", desc := "(IJ)V" } : Jvm.MethodName)) ∈ lw_all := lw_g (lw_at lw_m5 64 rfl) rfl
theorem q1161 : (Jvm.Cond.privateMethod ({ cls := "MovedSpan", name := "counts", desc := "(IJ)V" } : Jvm.MethodName)) ∈ lw_tbl := lw_at lw_m5 65 rfl
theorem q1162 : (Jvm.Cond.instanceMethod ({ cls := "MovedSpan", name := "counts", desc := "(IJ)V" } : Jvm.MethodName)) ∈ lw_all := lw_g (lw_at lw_m5 66 rfl) rfl
theorem q1163 : (Jvm.Cond.code ({ cls := "MovedSpan", name := "counts", desc := "(IJ)V" } : Jvm.MethodName) prog_1_method_40_code (4 : Nat) (Option.none : Option Jvm.ClassFile.FieldType)) ∈ lw_all := lw_g (lw_at lw_m5 67 rfl) rfl
theorem q1165 : (Jvm.Cond.instanceMethod ({ cls := "MovedSpan", name := "reach", desc := "(II)I" } : Jvm.MethodName)) ∈ lw_all := lw_g (lw_at lw_m5 69 rfl) rfl
theorem q1166 : (Jvm.Cond.selects "MovedSpan" ({ cls := "MovedSpan", name := "reach", desc := "(II)I" } : Jvm.MethodName) ({ cls := "MovedSpan", name := "reach", desc := "(II)I" } : Jvm.MethodName)) ∈ lw_all := lw_g (lw_at lw_m5 70 rfl) rfl
theorem q1167 : (Jvm.Cond.code ({ cls := "MovedSpan", name := "reach", desc := "(II)I" } : Jvm.MethodName) prog_1_method_42_code (3 : Nat) (Option.some Jvm.ClassFile.FieldType.int)) ∈ lw_all := lw_g (lw_at lw_m5 71 rfl) rfl
theorem q1168 : (Jvm.Cond.constantLong "MovedSpan" (329 : Nat) (60 : Int64)) ∈ lw_all := lw_g (lw_at lw_m5 72 rfl) rfl
theorem q1169 : (Jvm.Cond.methodLink "MovedSpan" (331 : Nat) ({ cls := "MovedSpan", name := "reachOf", desc := "(II)I" } : Jvm.MethodName)) ∈ lw_all := lw_g (lw_at lw_m5 73 rfl) rfl
theorem q1170 : (Jvm.Cond.privateMethod ({ cls := "MovedSpan", name := "reachOf", desc := "(II)I" } : Jvm.MethodName)) ∈ lw_tbl := lw_at lw_m5 74 rfl
theorem q1171 : (Jvm.Cond.instanceMethod ({ cls := "MovedSpan", name := "reachOf", desc := "(II)I" } : Jvm.MethodName)) ∈ lw_all := lw_g (lw_at lw_m5 75 rfl) rfl
theorem q1172 : (Jvm.Cond.code ({ cls := "MovedSpan", name := "reachOf", desc := "(II)I" } : Jvm.MethodName) prog_1_method_41_code (5 : Nat) (Option.some Jvm.ClassFile.FieldType.int)) ∈ lw_all := lw_g (lw_at lw_m5 76 rfl) rfl
theorem q1174 : (Jvm.Cond.instanceMethod ({ cls := "MovedSpan", name := "meet", desc := "(II)I" } : Jvm.MethodName)) ∈ lw_all := lw_g (lw_at lw_m5 78 rfl) rfl
theorem q1175 : (Jvm.Cond.selects "MovedSpan" ({ cls := "MovedSpan", name := "meet", desc := "(II)I" } : Jvm.MethodName) ({ cls := "MovedSpan", name := "meet", desc := "(II)I" } : Jvm.MethodName)) ∈ lw_all := lw_g (lw_at lw_m5 79 rfl) rfl
theorem q1176 : (Jvm.Cond.code ({ cls := "MovedSpan", name := "meet", desc := "(II)I" } : Jvm.MethodName) prog_1_method_45_code (3 : Nat) (Option.some Jvm.ClassFile.FieldType.int)) ∈ lw_all := lw_g (lw_at lw_m5 80 rfl) rfl
theorem q1177 : (Jvm.Cond.methodLink "MovedSpan" (337 : Nat) ({ cls := "MovedSpan", name := "areTwo", desc := "(II)Z" } : Jvm.MethodName)) ∈ lw_all := lw_g (lw_at lw_m5 81 rfl) rfl
theorem q1178 : (Jvm.Cond.privateMethod ({ cls := "MovedSpan", name := "areTwo", desc := "(II)Z" } : Jvm.MethodName)) ∈ lw_tbl := lw_at lw_m5 82 rfl
theorem q1179 : (Jvm.Cond.instanceMethod ({ cls := "MovedSpan", name := "areTwo", desc := "(II)Z" } : Jvm.MethodName)) ∈ lw_all := lw_g (lw_at lw_m5 83 rfl) rfl
theorem q1180 : (Jvm.Cond.code ({ cls := "MovedSpan", name := "areTwo", desc := "(II)Z" } : Jvm.MethodName) prog_1_method_44_code (3 : Nat) (Option.some Jvm.ClassFile.FieldType.boolean)) ∈ lw_all := lw_g (lw_at lw_m5 84 rfl) rfl
theorem q1181 : (Jvm.Cond.methodLink "MovedSpan" (340 : Nat) ({ cls := "MovedSpan", name := "meets", desc := "(II)I" } : Jvm.MethodName)) ∈ lw_all := lw_g (lw_at lw_m5 85 rfl) rfl
theorem q1182 : (Jvm.Cond.privateMethod ({ cls := "MovedSpan", name := "meets", desc := "(II)I" } : Jvm.MethodName)) ∈ lw_tbl := lw_at lw_m5 86 rfl
theorem q1183 : (Jvm.Cond.instanceMethod ({ cls := "MovedSpan", name := "meets", desc := "(II)I" } : Jvm.MethodName)) ∈ lw_all := lw_g (lw_at lw_m5 87 rfl) rfl
theorem q1184 : (Jvm.Cond.code ({ cls := "MovedSpan", name := "meets", desc := "(II)I" } : Jvm.MethodName) prog_1_method_43_code (6 : Nat) (Option.some Jvm.ClassFile.FieldType.int)) ∈ lw_all := lw_g (lw_at lw_m5 88 rfl) rfl
theorem q1186 : (Jvm.Cond.instanceMethod ({ cls := "MovedSpan", name := "meetAt", desc := "(II)I" } : Jvm.MethodName)) ∈ lw_all := lw_g (lw_at lw_m5 90 rfl) rfl
theorem q1187 : (Jvm.Cond.selects "MovedSpan" ({ cls := "MovedSpan", name := "meetAt", desc := "(II)I" } : Jvm.MethodName) ({ cls := "MovedSpan", name := "meetAt", desc := "(II)I" } : Jvm.MethodName)) ∈ lw_all := lw_g (lw_at lw_m5 91 rfl) rfl
theorem q1188 : (Jvm.Cond.code ({ cls := "MovedSpan", name := "meetAt", desc := "(II)I" } : Jvm.MethodName) prog_1_method_46_code (3 : Nat) (Option.some Jvm.ClassFile.FieldType.int)) ∈ lw_all := lw_g (lw_at lw_m5 92 rfl) rfl
theorem q1189 : (Jvm.Cond.methodLink "MovedSpan" (343 : Nat) ({ cls := "java/lang/Integer", name := "numberOfTrailingZeros", desc := "(I)I" } : Jvm.MethodName)) ∈ lw_all := lw_g (lw_at lw_m5 93 rfl) rfl
theorem q1194 : (Jvm.Cond.instanceMethod ({ cls := "MovedSpan", name := "inTime", desc := "()I" } : Jvm.MethodName)) ∈ lw_all := lw_g (lw_at lw_m5 98 rfl) rfl
theorem q1195 : (Jvm.Cond.selects "MovedSpan" ({ cls := "MovedSpan", name := "inTime", desc := "()I" } : Jvm.MethodName) ({ cls := "MovedSpan", name := "inTime", desc := "()I" } : Jvm.MethodName)) ∈ lw_all := lw_g (lw_at lw_m5 99 rfl) rfl
theorem q1196 : (Jvm.Cond.code ({ cls := "MovedSpan", name := "inTime", desc := "()I" } : Jvm.MethodName) prog_1_method_49_code (1 : Nat) (Option.some Jvm.ClassFile.FieldType.int)) ∈ lw_all := lw_g (lw_at lw_m5 100 rfl) rfl
theorem q1197 : (Jvm.Cond.methodLink "MovedSpan" (351 : Nat) ({ cls := "MovedSpan", name := "inTimeSet", desc := "()I" } : Jvm.MethodName)) ∈ lw_all := lw_g (lw_at lw_m5 101 rfl) rfl
theorem q1198 : (Jvm.Cond.privateMethod ({ cls := "MovedSpan", name := "inTimeSet", desc := "()I" } : Jvm.MethodName)) ∈ lw_tbl := lw_at lw_m5 102 rfl
theorem q1199 : (Jvm.Cond.instanceMethod ({ cls := "MovedSpan", name := "inTimeSet", desc := "()I" } : Jvm.MethodName)) ∈ lw_all := lw_g (lw_at lw_m5 103 rfl) rfl
theorem q1200 : (Jvm.Cond.code ({ cls := "MovedSpan", name := "inTimeSet", desc := "()I" } : Jvm.MethodName) prog_1_method_48_code (3 : Nat) (Option.some Jvm.ClassFile.FieldType.int)) ∈ lw_all := lw_g (lw_at lw_m5 104 rfl) rfl
theorem q1201 : (Jvm.Cond.methodLink "MovedSpan" (348 : Nat) ({ cls := "MovedSpan", name := "isInTime", desc := "(II)Z" } : Jvm.MethodName)) ∈ lw_all := lw_g (lw_at lw_m5 105 rfl) rfl
theorem q1202 : (Jvm.Cond.privateMethod ({ cls := "MovedSpan", name := "isInTime", desc := "(II)Z" } : Jvm.MethodName)) ∈ lw_tbl := lw_at lw_m5 106 rfl
theorem q1203 : (Jvm.Cond.instanceMethod ({ cls := "MovedSpan", name := "isInTime", desc := "(II)Z" } : Jvm.MethodName)) ∈ lw_all := lw_g (lw_at lw_m5 107 rfl) rfl
theorem q1204 : (Jvm.Cond.code ({ cls := "MovedSpan", name := "isInTime", desc := "(II)Z" } : Jvm.MethodName) prog_1_method_47_code (3 : Nat) (Option.some Jvm.ClassFile.FieldType.boolean)) ∈ lw_all := lw_g (lw_at lw_m5 108 rfl) rfl
theorem q1206 : (Jvm.Cond.instanceMethod ({ cls := "MovedSpan", name := "spare", desc := "(I)I" } : Jvm.MethodName)) ∈ lw_all := lw_g (lw_at lw_m5 110 rfl) rfl
theorem q1207 : (Jvm.Cond.selects "MovedSpan" ({ cls := "MovedSpan", name := "spare", desc := "(I)I" } : Jvm.MethodName) ({ cls := "MovedSpan", name := "spare", desc := "(I)I" } : Jvm.MethodName)) ∈ lw_all := lw_g (lw_at lw_m5 111 rfl) rfl
theorem q1208 : (Jvm.Cond.code ({ cls := "MovedSpan", name := "spare", desc := "(I)I" } : Jvm.MethodName) prog_1_method_50_code (3 : Nat) (Option.some Jvm.ClassFile.FieldType.int)) ∈ lw_all := lw_g (lw_at lw_m5 112 rfl) rfl
theorem q1210 : (Jvm.Cond.instanceMethod ({ cls := "MovedSpan", name := "needs", desc := "(I)I" } : Jvm.MethodName)) ∈ lw_all := lw_g (lw_at lw_m5 114 rfl) rfl
theorem q1211 : (Jvm.Cond.selects "MovedSpan" ({ cls := "MovedSpan", name := "needs", desc := "(I)I" } : Jvm.MethodName) ({ cls := "MovedSpan", name := "needs", desc := "(I)I" } : Jvm.MethodName)) ∈ lw_all := lw_g (lw_at lw_m5 115 rfl) rfl
theorem q1212 : (Jvm.Cond.code ({ cls := "MovedSpan", name := "needs", desc := "(I)I" } : Jvm.MethodName) prog_1_method_51_code (5 : Nat) (Option.some Jvm.ClassFile.FieldType.int)) ∈ lw_all := lw_g (lw_at lw_m5 116 rfl) rfl
theorem q1214 : (Jvm.Cond.instanceMethod ({ cls := "MovedSpan", name := "moves", desc := "()I" } : Jvm.MethodName)) ∈ lw_all := lw_g (lw_at lw_m5 118 rfl) rfl
theorem q1215 : (Jvm.Cond.selects "MovedSpan" ({ cls := "MovedSpan", name := "moves", desc := "()I" } : Jvm.MethodName) ({ cls := "MovedSpan", name := "moves", desc := "()I" } : Jvm.MethodName)) ∈ lw_all := lw_g (lw_at lw_m5 119 rfl) rfl
theorem q1216 : (Jvm.Cond.code ({ cls := "MovedSpan", name := "moves", desc := "()I" } : Jvm.MethodName) prog_1_method_53_code (1 : Nat) (Option.some Jvm.ClassFile.FieldType.int)) ∈ lw_all := lw_g (lw_at lw_m5 120 rfl) rfl
theorem q1217 : (Jvm.Cond.methodLink "MovedSpan" (354 : Nat) ({ cls := "MovedSpan", name := "movesOf", desc := "()I" } : Jvm.MethodName)) ∈ lw_all := lw_g (lw_at lw_m5 121 rfl) rfl
theorem q1218 : (Jvm.Cond.privateMethod ({ cls := "MovedSpan", name := "movesOf", desc := "()I" } : Jvm.MethodName)) ∈ lw_tbl := lw_at lw_m5 122 rfl
theorem q1219 : (Jvm.Cond.instanceMethod ({ cls := "MovedSpan", name := "movesOf", desc := "()I" } : Jvm.MethodName)) ∈ lw_all := lw_g (lw_at lw_m5 123 rfl) rfl
theorem q1220 : (Jvm.Cond.code ({ cls := "MovedSpan", name := "movesOf", desc := "()I" } : Jvm.MethodName) prog_1_method_52_code (3 : Nat) (Option.some Jvm.ClassFile.FieldType.int)) ∈ lw_all := lw_g (lw_at lw_m5 124 rfl) rfl
theorem q1222 : (Jvm.Cond.instanceMethod ({ cls := "MovedSpan", name := "best", desc := "(I)I" } : Jvm.MethodName)) ∈ lw_all := lw_g (lw_at lw_m5 126 rfl) rfl
theorem q1223 : (Jvm.Cond.selects "MovedSpan" ({ cls := "MovedSpan", name := "best", desc := "(I)I" } : Jvm.MethodName) ({ cls := "MovedSpan", name := "best", desc := "(I)I" } : Jvm.MethodName)) ∈ lw_all := lw_g (lw_at lw_m5 127 rfl) rfl
theorem q1224 : (Jvm.Cond.code ({ cls := "MovedSpan", name := "best", desc := "(I)I" } : Jvm.MethodName) prog_1_method_57_code (2 : Nat) (Option.some Jvm.ClassFile.FieldType.int)) ∈ lw_all := lw_g (lw_at lw_m5 128 rfl) rfl
theorem q1225 : (Jvm.Cond.constantLong "MovedSpan" (378 : Nat) (10 : Int64)) ∈ lw_all := lw_g (lw_at lw_m5 129 rfl) rfl
theorem q1226 : (Jvm.Cond.methodLink "MovedSpan" (380 : Nat) ({ cls := "MovedSpan", name := "laysWeeks", desc := "()V" } : Jvm.MethodName)) ∈ lw_all := lw_g (lw_at lw_m5 130 rfl) rfl
theorem q1227 : (Jvm.Cond.privateMethod ({ cls := "MovedSpan", name := "laysWeeks", desc := "()V" } : Jvm.MethodName)) ∈ lw_tbl := lw_at lw_m5 131 rfl
theorem q1228 : (Jvm.Cond.instanceMethod ({ cls := "MovedSpan", name := "laysWeeks", desc := "()V" } : Jvm.MethodName)) ∈ lw_all := lw_g (lw_at lw_m5 132 rfl) rfl
theorem q1229 : (Jvm.Cond.code ({ cls := "MovedSpan", name := "laysWeeks", desc := "()V" } : Jvm.MethodName) prog_1_method_56_code (1 : Nat) (Option.none : Option Jvm.ClassFile.FieldType)) ∈ lw_all := lw_g (lw_at lw_m5 133 rfl) rfl
theorem q1230 : (Jvm.Cond.methodLink "MovedSpan" (360 : Nat) ({ cls := "MovedSpan", name := "goesWeeks", desc := "(I)V" } : Jvm.MethodName)) ∈ lw_all := lw_g (lw_at lw_m5 134 rfl) rfl
theorem q1231 : (Jvm.Cond.privateMethod ({ cls := "MovedSpan", name := "goesWeeks", desc := "(I)V" } : Jvm.MethodName)) ∈ lw_tbl := lw_at lw_m5 135 rfl
theorem q1232 : (Jvm.Cond.instanceMethod ({ cls := "MovedSpan", name := "goesWeeks", desc := "(I)V" } : Jvm.MethodName)) ∈ lw_all := lw_g (lw_at lw_m5 136 rfl) rfl
theorem q1233 : (Jvm.Cond.code ({ cls := "MovedSpan", name := "goesWeeks", desc := "(I)V" } : Jvm.MethodName) prog_1_method_54_code (3 : Nat) (Option.none : Option Jvm.ClassFile.FieldType)) ∈ lw_all := lw_g (lw_at lw_m5 137 rfl) rfl
theorem q1234 : (Jvm.Cond.methodLink "MovedSpan" (357 : Nat) ({ cls := "MovedSpan", name := "sees", desc := "()V" } : Jvm.MethodName)) ∈ lw_all := lw_g (lw_at lw_m5 138 rfl) rfl
theorem q1235 : (Jvm.Cond.privateMethod ({ cls := "MovedSpan", name := "sees", desc := "()V" } : Jvm.MethodName)) ∈ lw_tbl := lw_at lw_m5 139 rfl
theorem q1236 : (Jvm.Cond.instanceMethod ({ cls := "MovedSpan", name := "sees", desc := "()V" } : Jvm.MethodName)) ∈ lw_all := lw_g (lw_at lw_m5 140 rfl) rfl
theorem q1237 : (Jvm.Cond.code ({ cls := "MovedSpan", name := "sees", desc := "()V" } : Jvm.MethodName) prog_1_method_55_code (3 : Nat) (Option.none : Option Jvm.ClassFile.FieldType)) ∈ lw_all := lw_g (lw_at lw_m5 141 rfl) rfl
theorem q1238 : (Jvm.Cond.methodLink "MovedSpan" (363 : Nat) ({ cls := "java/lang/Integer", name := "bitCount", desc := "(I)I" } : Jvm.MethodName)) ∈ lw_all := lw_g (lw_at lw_m5 142 rfl) rfl
theorem q1239 : (Jvm.Cond.methodLink "MovedSpan" (369 : Nat) ({ cls := "MovedSpan$River", name := "errands", desc := "()I" } : Jvm.MethodName)) ∈ lw_all := lw_g (lw_at lw_m5 143 rfl) rfl
theorem q1244 : (Jvm.Cond.instanceMethod ({ cls := "MovedSpan", name := "weeks", desc := "()I" } : Jvm.MethodName)) ∈ lw_all := lw_g (lw_at lw_m5 148 rfl) rfl
theorem q1245 : (Jvm.Cond.selects "MovedSpan" ({ cls := "MovedSpan", name := "weeks", desc := "()I" } : Jvm.MethodName) ({ cls := "MovedSpan", name := "weeks", desc := "()I" } : Jvm.MethodName)) ∈ lw_all := lw_g (lw_at lw_m5 149 rfl) rfl
theorem q1246 : (Jvm.Cond.code ({ cls := "MovedSpan", name := "weeks", desc := "()I" } : Jvm.MethodName) prog_1_method_58_code (1 : Nat) (Option.some Jvm.ClassFile.FieldType.int)) ∈ lw_all := lw_g (lw_at lw_m5 150 rfl) rfl
theorem q1248 : (Jvm.Cond.instanceMethod ({ cls := "MovedSpan", name := "change", desc := "()I" } : Jvm.MethodName)) ∈ lw_all := lw_g (lw_at lw_m5 152 rfl) rfl
theorem q1249 : (Jvm.Cond.selects "MovedSpan" ({ cls := "MovedSpan", name := "change", desc := "()I" } : Jvm.MethodName) ({ cls := "MovedSpan", name := "change", desc := "()I" } : Jvm.MethodName)) ∈ lw_all := lw_g (lw_at lw_m5 153 rfl) rfl
theorem q1250 : (Jvm.Cond.code ({ cls := "MovedSpan", name := "change", desc := "()I" } : Jvm.MethodName) prog_1_method_59_code (7 : Nat) (Option.some Jvm.ClassFile.FieldType.int)) ∈ lw_all := lw_g (lw_at lw_m5 154 rfl) rfl
theorem q1252 : (Jvm.Cond.instanceMethod ({ cls := "MovedSpan", name := "shift", desc := "()I" } : Jvm.MethodName)) ∈ lw_all := lw_g (lw_at lw_m5 156 rfl) rfl
theorem q1253 : (Jvm.Cond.selects "MovedSpan" ({ cls := "MovedSpan", name := "shift", desc := "()I" } : Jvm.MethodName) ({ cls := "MovedSpan", name := "shift", desc := "()I" } : Jvm.MethodName)) ∈ lw_all := lw_g (lw_at lw_m5 157 rfl) rfl
theorem q1254 : (Jvm.Cond.code ({ cls := "MovedSpan", name := "shift", desc := "()I" } : Jvm.MethodName) prog_1_method_60_code (5 : Nat) (Option.some Jvm.ClassFile.FieldType.int)) ∈ lw_all := lw_g (lw_at lw_m5 158 rfl) rfl
theorem q1256 : (Jvm.Cond.instanceMethod ({ cls := "MovedSpan", name := "fits", desc := "(III)I" } : Jvm.MethodName)) ∈ lw_all := lw_g (lw_at lw_m5 160 rfl) rfl
theorem q1257 : (Jvm.Cond.selects "MovedSpan" ({ cls := "MovedSpan", name := "fits", desc := "(III)I" } : Jvm.MethodName) ({ cls := "MovedSpan", name := "fits", desc := "(III)I" } : Jvm.MethodName)) ∈ lw_all := lw_g (lw_at lw_m5 161 rfl) rfl
theorem q1258 : (Jvm.Cond.code ({ cls := "MovedSpan", name := "fits", desc := "(III)I" } : Jvm.MethodName) prog_1_method_65_code (5 : Nat) (Option.some Jvm.ClassFile.FieldType.int)) ∈ lw_all := lw_g (lw_at lw_m5 162 rfl) rfl
theorem q1259 : (Jvm.Cond.methodLink "MovedSpan" (390 : Nat) ({ cls := "MovedSpan", name := "seenFault", desc := "(II)I" } : Jvm.MethodName)) ∈ lw_all := lw_g (lw_at lw_m5 163 rfl) rfl
theorem q1260 : (Jvm.Cond.privateMethod ({ cls := "MovedSpan", name := "seenFault", desc := "(II)I" } : Jvm.MethodName)) ∈ lw_tbl := lw_at lw_m5 164 rfl
theorem q1261 : (Jvm.Cond.instanceMethod ({ cls := "MovedSpan", name := "seenFault", desc := "(II)I" } : Jvm.MethodName)) ∈ lw_all := lw_g (lw_at lw_m5 165 rfl) rfl
theorem q1262 : (Jvm.Cond.code ({ cls := "MovedSpan", name := "seenFault", desc := "(II)I" } : Jvm.MethodName) prog_1_method_61_code (6 : Nat) (Option.some Jvm.ClassFile.FieldType.int)) ∈ lw_all := lw_g (lw_at lw_m5 166 rfl) rfl
theorem q1263 : (Jvm.Cond.methodLink "MovedSpan" (393 : Nat) ({ cls := "MovedSpan", name := "fitting", desc := "(LMovedSpan$Numbers;II)I" } : Jvm.MethodName)) ∈ lw_all := lw_g (lw_at lw_m5 167 rfl) rfl
theorem q1264 : (Jvm.Cond.privateMethod ({ cls := "MovedSpan", name := "fitting", desc := "(LMovedSpan$Numbers;II)I" } : Jvm.MethodName)) ∈ lw_tbl := lw_at lw_m5 168 rfl
theorem q1265 : (Jvm.Cond.instanceMethod ({ cls := "MovedSpan", name := "fitting", desc := "(LMovedSpan$Numbers;II)I" } : Jvm.MethodName)) ∈ lw_all := lw_g (lw_at lw_m5 169 rfl) rfl
theorem q1266 : (Jvm.Cond.code ({ cls := "MovedSpan", name := "fitting", desc := "(LMovedSpan$Numbers;II)I" } : Jvm.MethodName) prog_1_method_64_code (7 : Nat) (Option.some Jvm.ClassFile.FieldType.int)) ∈ lw_all := lw_g (lw_at lw_m5 170 rfl) rfl
theorem q1267 : (Jvm.Cond.methodLink "MovedSpan" (386 : Nat) ({ cls := "MovedSpan", name := "firstOdd", desc := "(LMovedSpan$Numbers;I)I" } : Jvm.MethodName)) ∈ lw_all := lw_g (lw_at lw_m5 171 rfl) rfl
theorem q1268 : (Jvm.Cond.privateMethod ({ cls := "MovedSpan", name := "firstOdd", desc := "(LMovedSpan$Numbers;I)I" } : Jvm.MethodName)) ∈ lw_tbl := lw_at lw_m5 172 rfl
theorem q1269 : (Jvm.Cond.instanceMethod ({ cls := "MovedSpan", name := "firstOdd", desc := "(LMovedSpan$Numbers;I)I" } : Jvm.MethodName)) ∈ lw_all := lw_g (lw_at lw_m5 173 rfl) rfl
theorem q1270 : (Jvm.Cond.code ({ cls := "MovedSpan", name := "firstOdd", desc := "(LMovedSpan$Numbers;I)I" } : Jvm.MethodName) prog_1_method_63_code (5 : Nat) (Option.some Jvm.ClassFile.FieldType.int)) ∈ lw_all := lw_g (lw_at lw_m5 174 rfl) rfl
theorem q1271 : (Jvm.Cond.methodLink "MovedSpan" (383 : Nat) ({ cls := "MovedSpan", name := "spots", desc := "()I" } : Jvm.MethodName)) ∈ lw_all := lw_g (lw_at lw_m5 175 rfl) rfl
theorem q1272 : (Jvm.Cond.privateMethod ({ cls := "MovedSpan", name := "spots", desc := "()I" } : Jvm.MethodName)) ∈ lw_tbl := lw_at lw_m5 176 rfl
theorem q1273 : (Jvm.Cond.instanceMethod ({ cls := "MovedSpan", name := "spots", desc := "()I" } : Jvm.MethodName)) ∈ lw_all := lw_g (lw_at lw_m5 177 rfl) rfl
theorem q1274 : (Jvm.Cond.code ({ cls := "MovedSpan", name := "spots", desc := "()I" } : Jvm.MethodName) prog_1_method_62_code (1 : Nat) (Option.some Jvm.ClassFile.FieldType.int)) ∈ lw_all := lw_g (lw_at lw_m5 178 rfl) rfl
theorem q1276 : (Jvm.Cond.instanceMethod ({ cls := "MovedSpan", name := "surest", desc := "(II)I" } : Jvm.MethodName)) ∈ lw_all := lw_g (lw_at lw_m5 180 rfl) rfl
theorem q1277 : (Jvm.Cond.selects "MovedSpan" ({ cls := "MovedSpan", name := "surest", desc := "(II)I" } : Jvm.MethodName) ({ cls := "MovedSpan", name := "surest", desc := "(II)I" } : Jvm.MethodName)) ∈ lw_all := lw_g (lw_at lw_m5 181 rfl) rfl
theorem q1278 : (Jvm.Cond.code ({ cls := "MovedSpan", name := "surest", desc := "(II)I" } : Jvm.MethodName) prog_1_method_66_code (8 : Nat) (Option.some Jvm.ClassFile.FieldType.int)) ∈ lw_all := lw_g (lw_at lw_m5 182 rfl) rfl
theorem q1280 : (Jvm.Cond.instanceMethod ({ cls := "MovedSpan", name := "odd", desc := "(II)I" } : Jvm.MethodName)) ∈ lw_all := lw_g (lw_at lw_m5 184 rfl) rfl
theorem q1281 : (Jvm.Cond.selects "MovedSpan" ({ cls := "MovedSpan", name := "odd", desc := "(II)I" } : Jvm.MethodName) ({ cls := "MovedSpan", name := "odd", desc := "(II)I" } : Jvm.MethodName)) ∈ lw_all := lw_g (lw_at lw_m5 185 rfl) rfl
theorem q1282 : (Jvm.Cond.code ({ cls := "MovedSpan", name := "odd", desc := "(II)I" } : Jvm.MethodName) prog_1_method_67_code (4 : Nat) (Option.some Jvm.ClassFile.FieldType.int)) ∈ lw_all := lw_g (lw_at lw_m5 186 rfl) rfl
theorem q1284 : (Jvm.Cond.instanceMethod ({ cls := "MovedSpan", name := "chance", desc := "(IIII)J" } : Jvm.MethodName)) ∈ lw_all := lw_g (lw_at lw_m5 188 rfl) rfl
theorem q1285 : (Jvm.Cond.selects "MovedSpan" ({ cls := "MovedSpan", name := "chance", desc := "(IIII)J" } : Jvm.MethodName) ({ cls := "MovedSpan", name := "chance", desc := "(IIII)J" } : Jvm.MethodName)) ∈ lw_all := lw_g (lw_at lw_m5 189 rfl) rfl
theorem q1286 : (Jvm.Cond.code ({ cls := "MovedSpan", name := "chance", desc := "(IIII)J" } : Jvm.MethodName) prog_1_method_72_code (9 : Nat) (Option.some Jvm.ClassFile.FieldType.long)) ∈ lw_all := lw_g (lw_at lw_m5 190 rfl) rfl
theorem q1287 : (Jvm.Cond.constantLong "MovedSpan" (414 : Nat) (9 : Int64)) ∈ lw_all := lw_g (lw_at lw_m5 191 rfl) rfl
theorem q1288 : (Jvm.Cond.methodLink "MovedSpan" (416 : Nat) ({ cls := "MovedSpan", name := "chanceOf", desc := "(III)J" } : Jvm.MethodName)) ∈ lw_all := lw_g (lw_at lw_m5 192 rfl) rfl
theorem q1289 : (Jvm.Cond.privateMethod ({ cls := "MovedSpan", name := "chanceOf", desc := "(III)J" } : Jvm.MethodName)) ∈ lw_tbl := lw_at lw_m5 193 rfl
theorem q1290 : (Jvm.Cond.instanceMethod ({ cls := "MovedSpan", name := "chanceOf", desc := "(III)J" } : Jvm.MethodName)) ∈ lw_all := lw_g (lw_at lw_m5 194 rfl) rfl
theorem q1291 : (Jvm.Cond.code ({ cls := "MovedSpan", name := "chanceOf", desc := "(III)J" } : Jvm.MethodName) prog_1_method_70_code (6 : Nat) (Option.some Jvm.ClassFile.FieldType.long)) ∈ lw_all := lw_g (lw_at lw_m5 195 rfl) rfl
theorem q1292 : (Jvm.Cond.methodLink "MovedSpan" (401 : Nat) ({ cls := "MovedSpan", name := "tens", desc := "(I)J" } : Jvm.MethodName)) ∈ lw_all := lw_g (lw_at lw_m5 196 rfl) rfl
theorem q1293 : (Jvm.Cond.static ({ cls := "MovedSpan", name := "tens", desc := "(I)J" } : Jvm.MethodName)) ∈ lw_all := lw_g (lw_at lw_m5 197 rfl) rfl
theorem q1294 : (Jvm.Cond.code ({ cls := "MovedSpan", name := "tens", desc := "(I)J" } : Jvm.MethodName) prog_1_method_68_code (4 : Nat) (Option.some Jvm.ClassFile.FieldType.long)) ∈ lw_all := lw_g (lw_at lw_m5 198 rfl) rfl
theorem q1295 : (Jvm.Cond.methodLink "MovedSpan" (407 : Nat) ({ cls := "MovedSpan", name := "likeliest", desc := "(IIIII)J" } : Jvm.MethodName)) ∈ lw_all := lw_g (lw_at lw_m5 199 rfl) rfl
theorem q1296 : (Jvm.Cond.privateMethod ({ cls := "MovedSpan", name := "likeliest", desc := "(IIIII)J" } : Jvm.MethodName)) ∈ lw_tbl := lw_at lw_m5 200 rfl
theorem q1297 : (Jvm.Cond.instanceMethod ({ cls := "MovedSpan", name := "likeliest", desc := "(IIIII)J" } : Jvm.MethodName)) ∈ lw_all := lw_g (lw_at lw_m5 201 rfl) rfl
theorem q1298 : (Jvm.Cond.code ({ cls := "MovedSpan", name := "likeliest", desc := "(IIIII)J" } : Jvm.MethodName) prog_1_method_69_code (10 : Nat) (Option.some Jvm.ClassFile.FieldType.long)) ∈ lw_all := lw_g (lw_at lw_m5 202 rfl) rfl
theorem q1299 : (Jvm.Cond.methodLink "MovedSpan" (397 : Nat) ({ cls := "java/lang/Math", name := "max", desc := "(JJ)J" } : Jvm.MethodName)) ∈ lw_all := lw_g (lw_at lw_m5 203 rfl) rfl
theorem q1300 : (Jvm.Cond.methodLink "MovedSpan" (411 : Nat) ({ cls := "MovedSpan", name := "common", desc := "(JJ)J" } : Jvm.MethodName)) ∈ lw_all := lw_g (lw_at lw_m5 204 rfl) rfl
theorem q1301 : (Jvm.Cond.static ({ cls := "MovedSpan", name := "common", desc := "(JJ)J" } : Jvm.MethodName)) ∈ lw_all := lw_g (lw_at lw_m5 205 rfl) rfl
theorem q1302 : (Jvm.Cond.code ({ cls := "MovedSpan", name := "common", desc := "(JJ)J" } : Jvm.MethodName) prog_1_method_71_code (4 : Nat) (Option.some Jvm.ClassFile.FieldType.long)) ∈ lw_all := lw_g (lw_at lw_m5 206 rfl) rfl
theorem q1304 : (Jvm.Cond.instanceMethod ({ cls := "MovedSpan", name := "likely", desc := "(III)I" } : Jvm.MethodName)) ∈ lw_all := lw_g (lw_at lw_m5 208 rfl) rfl
theorem q1305 : (Jvm.Cond.selects "MovedSpan" ({ cls := "MovedSpan", name := "likely", desc := "(III)I" } : Jvm.MethodName) ({ cls := "MovedSpan", name := "likely", desc := "(III)I" } : Jvm.MethodName)) ∈ lw_all := lw_g (lw_at lw_m5 209 rfl) rfl
theorem q1306 : (Jvm.Cond.code ({ cls := "MovedSpan", name := "likely", desc := "(III)I" } : Jvm.MethodName) prog_1_method_73_code (5 : Nat) (Option.some Jvm.ClassFile.FieldType.int)) ∈ lw_all := lw_g (lw_at lw_m5 210 rfl) rfl
theorem q1307 : (Jvm.Cond.constantLong "MovedSpan" (420 : Nat) (100 : Int64)) ∈ lw_all := lw_g (lw_at lw_m5 211 rfl) rfl
theorem q1309 : (Jvm.Cond.instanceMethod ({ cls := "MovedSpan", name := "numbers", desc := "(III)I" } : Jvm.MethodName)) ∈ lw_all := lw_g (lw_at lw_m5 213 rfl) rfl
theorem q1310 : (Jvm.Cond.selects "MovedSpan" ({ cls := "MovedSpan", name := "numbers", desc := "(III)I" } : Jvm.MethodName) ({ cls := "MovedSpan", name := "numbers", desc := "(III)I" } : Jvm.MethodName)) ∈ lw_all := lw_g (lw_at lw_m5 214 rfl) rfl
theorem q1311 : (Jvm.Cond.code ({ cls := "MovedSpan", name := "numbers", desc := "(III)I" } : Jvm.MethodName) prog_1_method_76_code (4 : Nat) (Option.some Jvm.ClassFile.FieldType.int)) ∈ lw_all := lw_g (lw_at lw_m5 215 rfl) rfl
theorem q1312 : (Jvm.Cond.methodLink "MovedSpan" (429 : Nat) ({ cls := "MovedSpan$Numbers", name := "begins", desc := "(II)Z" } : Jvm.MethodName)) ∈ lw_all := lw_g (lw_at lw_m5 216 rfl) rfl
theorem q1401 : (Jvm.Cond.instanceMethod ({ cls := "MovedSpan", name := "write", desc := "(IIJ)J" } : Jvm.MethodName)) ∈ lw_all := lw_g (lw_at lw_m6 65 rfl) rfl
theorem q1402 : (Jvm.Cond.selects "MovedSpan" ({ cls := "MovedSpan", name := "write", desc := "(IIJ)J" } : Jvm.MethodName) ({ cls := "MovedSpan", name := "write", desc := "(IIJ)J" } : Jvm.MethodName)) ∈ lw_all := lw_g (lw_at lw_m6 66 rfl) rfl
theorem q1403 : (Jvm.Cond.codeWith ({ cls := "MovedSpan", name := "write", desc := "(IIJ)J" } : Jvm.MethodName) prog_1_method_77_code (6 : Nat) (Option.some Jvm.ClassFile.FieldType.long) [((11 : Nat), (32 : Nat), (33 : Nat), (434 : Nat)), ((11 : Nat), (32 : Nat), (39 : Nat), (438 : Nat))]) ∈ lw_all := lw_g (lw_at lw_m6 67 rfl) rfl
theorem q1404 : (Jvm.Cond.classLink "MovedSpan" (434 : Nat) "java/lang/NullPointerException") ∈ lw_all := lw_g (lw_at lw_m6 68 rfl) rfl
theorem q1429 : (Jvm.Cond.classLink "MovedSpan" (438 : Nat) "java/lang/ArrayIndexOutOfBoundsException") ∈ lw_all := lw_g (lw_at lw_m6 93 rfl) rfl
theorem q1448 : (Jvm.Cond.methodLink "MovedSpan" (431 : Nat) ({ cls := "MovedSpan$Numbers", name := "puts", desc := "(IJ)V" } : Jvm.MethodName)) ∈ lw_all := lw_g (lw_at lw_m6 112 rfl) rfl
theorem q1452 : (Jvm.Cond.constantLong "MovedSpan" (436 : Nat) (-6 : Int64)) ∈ lw_all := lw_g (lw_at lw_m6 116 rfl) rfl
theorem q1453 : (Jvm.Cond.constantLong "MovedSpan" (440 : Nat) (-7 : Int64)) ∈ lw_all := lw_g (lw_at lw_m6 117 rfl) rfl
theorem q1455 : (Jvm.Cond.instanceMethod ({ cls := "MovedSpan", name := "lists", desc := "(III)I" } : Jvm.MethodName)) ∈ lw_all := lw_g (lw_at lw_m6 119 rfl) rfl
theorem q1456 : (Jvm.Cond.selects "MovedSpan" ({ cls := "MovedSpan", name := "lists", desc := "(III)I" } : Jvm.MethodName) ({ cls := "MovedSpan", name := "lists", desc := "(III)I" } : Jvm.MethodName)) ∈ lw_all := lw_g (lw_at lw_m6 120 rfl) rfl
theorem q1457 : (Jvm.Cond.code ({ cls := "MovedSpan", name := "lists", desc := "(III)I" } : Jvm.MethodName) prog_1_method_78_code (8 : Nat) (Option.some Jvm.ClassFile.FieldType.int)) ∈ lw_all := lw_g (lw_at lw_m6 121 rfl) rfl
theorem q1459 : (Jvm.Cond.instanceMethod ({ cls := "MovedSpan", name := "image", desc := "(I)I" } : Jvm.MethodName)) ∈ lw_all := lw_g (lw_at lw_m6 123 rfl) rfl
theorem q1460 : (Jvm.Cond.selects "MovedSpan" ({ cls := "MovedSpan", name := "image", desc := "(I)I" } : Jvm.MethodName) ({ cls := "MovedSpan", name := "image", desc := "(I)I" } : Jvm.MethodName)) ∈ lw_all := lw_g (lw_at lw_m6 124 rfl) rfl
theorem q1461 : (Jvm.Cond.code ({ cls := "MovedSpan", name := "image", desc := "(I)I" } : Jvm.MethodName) prog_1_method_79_code (2 : Nat) (Option.some Jvm.ClassFile.FieldType.int)) ∈ lw_all := lw_g (lw_at lw_m6 125 rfl) rfl
theorem q1463 : (Jvm.Cond.instanceMethod ({ cls := "MovedSpan", name := "restore", desc := "(I)I" } : Jvm.MethodName)) ∈ lw_all := lw_g (lw_at lw_m6 127 rfl) rfl
theorem q1464 : (Jvm.Cond.selects "MovedSpan" ({ cls := "MovedSpan", name := "restore", desc := "(I)I" } : Jvm.MethodName) ({ cls := "MovedSpan", name := "restore", desc := "(I)I" } : Jvm.MethodName)) ∈ lw_all := lw_g (lw_at lw_m6 128 rfl) rfl
theorem q1465 : (Jvm.Cond.code ({ cls := "MovedSpan", name := "restore", desc := "(I)I" } : Jvm.MethodName) prog_1_method_80_code (2 : Nat) (Option.some Jvm.ClassFile.FieldType.int)) ∈ lw_all := lw_g (lw_at lw_m6 129 rfl) rfl
theorem q1467 : (Jvm.Cond.instanceMethod ({ cls := "MovedSpan", name := "count", desc := "(I)I" } : Jvm.MethodName)) ∈ lw_all := lw_g (lw_at lw_m6 131 rfl) rfl
theorem q1468 : (Jvm.Cond.selects "MovedSpan" ({ cls := "MovedSpan", name := "count", desc := "(I)I" } : Jvm.MethodName) ({ cls := "MovedSpan", name := "count", desc := "(I)I" } : Jvm.MethodName)) ∈ lw_all := lw_g (lw_at lw_m6 132 rfl) rfl
theorem q1469 : (Jvm.Cond.code ({ cls := "MovedSpan", name := "count", desc := "(I)I" } : Jvm.MethodName) prog_1_method_82_code (2 : Nat) (Option.some Jvm.ClassFile.FieldType.int)) ∈ lw_all := lw_g (lw_at lw_m6 133 rfl) rfl
theorem q1470 : (Jvm.Cond.methodLink "MovedSpan" (442 : Nat) ({ cls := "MovedSpan", name := "riders", desc := "()I" } : Jvm.MethodName)) ∈ lw_all := lw_g (lw_at lw_m6 134 rfl) rfl
theorem q1471 : (Jvm.Cond.privateMethod ({ cls := "MovedSpan", name := "riders", desc := "()I" } : Jvm.MethodName)) ∈ lw_tbl := lw_at lw_m6 135 rfl
theorem q1472 : (Jvm.Cond.instanceMethod ({ cls := "MovedSpan", name := "riders", desc := "()I" } : Jvm.MethodName)) ∈ lw_all := lw_g (lw_at lw_m6 136 rfl) rfl
theorem q1473 : (Jvm.Cond.code ({ cls := "MovedSpan", name := "riders", desc := "()I" } : Jvm.MethodName) prog_1_method_81_code (3 : Nat) (Option.some Jvm.ClassFile.FieldType.int)) ∈ lw_all := lw_g (lw_at lw_m6 137 rfl) rfl
theorem in_X0 : ∀ w ∈ wsX00, w ∈ lw_all := lw_in wsX00 [405, 407, 409, 411, 413, 415, 417, 419, 421, 423, 425, 427, 429, 431, 433, 435, 437, 439, 441, 443, 445, 447, 449, 451, 453, 455, 457, 459] (by decide +kernel) (by decide +kernel)
abbrev cX1_init : ByteArray := prog_14_method_1_code
abbrev cX1_serves : ByteArray := prog_14_method_4_code
abbrev cX1_lays : ByteArray := prog_14_method_2_code
abbrev cX1_walks : ByteArray := prog_14_method_3_code
abbrev cX1_isSpot : ByteArray := prog_14_method_5_code
abbrev cX1_errands : ByteArray := prog_14_method_6_code
def RX1 : String := "MovedSpan$River"
def TX1 : u_T := fun k => match k with
  | 0 => ("MovedSpan$River", "plan", "[I", true)
  | 1 => ("MovedSpan$River", "at", "[I", true)
  | 2 => ("MovedSpan$River", "load", "[I", true)
  | 3 => ("MovedSpan$River", "goal", "[I", true)
  | 4 => ("MovedSpan$River", "by", "[I", true)
  | 5 => ("MovedSpan$River", "words", "[I", true)
  | 6 => ("MovedSpan$River", "gaps", "I", false)
  | 7 => ("MovedSpan$River", "week", "I", false)
  | 8 => ("MovedSpan$River", "people", "I", false)
  | 9 => ("MovedSpan$River", "foggy", "I", false)
  | 10 => ("MovedSpan$River", "hour", "I", false)
  | 11 => ("MovedSpan$River", "lines", "I", false)
  | 12 => ("MovedSpan$River", "walks", "LMovedSpan$Truth;", false)
  | _ => ("MovedSpan$River", "serves", "LMovedSpan$Truth;", false)
def tyX1 : Nat → FieldType := fun k => match k with
  | 0 => .array .int
  | 1 => .array .int
  | 2 => .array .int
  | 3 => .array .int
  | 4 => .array .int
  | 5 => .array .int
  | 6 => .int
  | 7 => .int
  | 8 => .int
  | 9 => .int
  | 10 => .int
  | 11 => .int
  | 12 => .object "MovedSpan$Truth"
  | _ => .object "MovedSpan$Truth"
abbrev wsX10 : List Cond := u_ws RX1 TX1 14
theorem nmX1 : ∀ a, a < 14 → ∀ b, b < 14 → a ≠ b → (TX1 a).2.1 ≠ (TX1 b).2.1 := by decide +kernel
theorem tyX1_ok : ∀ k, k < 14 → parseFieldDescriptor (TX1 k).2.2.1 = some (tyX1 k) := by decide +kernel
def yX1_init : MethodName := ⟨RX1, "<init>", "()V"⟩
def yX1_serves : MethodName := ⟨RX1, "serves", "(IIII)Z"⟩
def yX1_lays : MethodName := ⟨RX1, "lays", "(IIII)V"⟩
def yX1_walks : MethodName := ⟨RX1, "walks", "(IIIII)Z"⟩
def yX1_isSpot : MethodName := ⟨RX1, "isSpot", "(J)Z"⟩
def yX1_errands : MethodName := ⟨RX1, "errands", "()I"⟩
theorem q138 : (Jvm.Cond.initialized "MovedSpan$River") ∈ lw_all := lw_g (lw_at lw_m1 2 rfl) rfl
theorem q180 : (Jvm.Cond.instantiable "MovedSpan$River" (14 : Nat)) ∈ lw_all := lw_g (lw_at lw_m1 44 rfl) rfl
theorem q182 : (Jvm.Cond.instanceMethod ({ cls := "MovedSpan$River", name := "<init>", desc := "()V" } : Jvm.MethodName)) ∈ lw_all := lw_g (lw_at lw_m1 46 rfl) rfl
theorem q183 : (Jvm.Cond.code ({ cls := "MovedSpan$River", name := "<init>", desc := "()V" } : Jvm.MethodName) prog_14_method_1_code (1 : Nat) (Option.none : Option Jvm.ClassFile.FieldType)) ∈ lw_all := lw_g (lw_at lw_m1 47 rfl) rfl
theorem q184 : (Jvm.Cond.methodLink "MovedSpan$River" (3 : Nat) ({ cls := "java/lang/Object", name := "<init>", desc := "()V" } : Jvm.MethodName)) ∈ lw_all := lw_g (lw_at lw_m1 48 rfl) rfl
theorem q185 : (Jvm.Cond.fieldLink "MovedSpan$River" (9 : Nat) "MovedSpan$River" "plan" "[I") ∈ lw_all := lw_g (lw_at lw_m1 49 rfl) rfl
theorem q188 : (Jvm.Cond.fieldLink "MovedSpan$River" (15 : Nat) "MovedSpan$River" "at" "[I") ∈ lw_all := lw_g (lw_at lw_m1 52 rfl) rfl
theorem q191 : (Jvm.Cond.fieldLink "MovedSpan$River" (18 : Nat) "MovedSpan$River" "load" "[I") ∈ lw_all := lw_g (lw_at lw_m1 55 rfl) rfl
theorem q194 : (Jvm.Cond.fieldLink "MovedSpan$River" (21 : Nat) "MovedSpan$River" "goal" "[I") ∈ lw_all := lw_g (lw_at lw_m1 58 rfl) rfl
theorem q198 : (Jvm.Cond.fieldLink "MovedSpan$River" (24 : Nat) "MovedSpan$River" "by" "[I") ∈ lw_all := lw_g (lw_at lw_m1 62 rfl) rfl
theorem q202 : (Jvm.Cond.fieldLink "MovedSpan$River" (27 : Nat) "MovedSpan$River" "words" "[I") ∈ lw_all := lw_g (lw_at lw_m1 66 rfl) rfl
theorem q203 : (Jvm.Cond.fieldLink "MovedSpan$River" (30 : Nat) "MovedSpan$River" "gaps" "I") ∈ lw_all := lw_g (lw_at lw_m1 67 rfl) rfl
theorem q208 : (Jvm.Cond.fieldLink "MovedSpan$River" (34 : Nat) "MovedSpan$River" "week" "I") ∈ lw_all := lw_g (lw_at lw_m1 72 rfl) rfl
theorem q213 : (Jvm.Cond.fieldLink "MovedSpan$River" (60 : Nat) "MovedSpan$River" "people" "I") ∈ lw_all := lw_g (lw_at lw_m1 77 rfl) rfl
theorem q222 : (Jvm.Cond.fieldLink "MovedSpan$River" (37 : Nat) "MovedSpan$River" "walks" "LMovedSpan$Truth;") ∈ lw_all := lw_g (lw_at lw_m1 86 rfl) rfl
theorem q224 : (Jvm.Cond.fieldLink "MovedSpan$River" (51 : Nat) "MovedSpan$River" "serves" "LMovedSpan$Truth;") ∈ lw_all := lw_g (lw_at lw_m1 88 rfl) rfl
theorem q226 : (Jvm.Cond.laysFinal "MovedSpan$River" "MovedSpan$River" "plan" "[I") ∈ lw_all := lw_g (lw_at lw_m1 90 rfl) rfl
theorem q227 : (Jvm.Cond.soleField "MovedSpan$River" "plan") ∈ lw_all := lw_g (lw_at lw_m1 91 rfl) rfl
theorem q228 : (Jvm.Cond.laysFinal "MovedSpan$River" "MovedSpan$River" "at" "[I") ∈ lw_all := lw_g (lw_at lw_m1 92 rfl) rfl
theorem q229 : (Jvm.Cond.soleField "MovedSpan$River" "at") ∈ lw_all := lw_g (lw_at lw_m1 93 rfl) rfl
theorem q230 : (Jvm.Cond.laysFinal "MovedSpan$River" "MovedSpan$River" "load" "[I") ∈ lw_all := lw_g (lw_at lw_m1 94 rfl) rfl
theorem q231 : (Jvm.Cond.soleField "MovedSpan$River" "load") ∈ lw_all := lw_g (lw_at lw_m1 95 rfl) rfl
theorem q232 : (Jvm.Cond.laysFinal "MovedSpan$River" "MovedSpan$River" "goal" "[I") ∈ lw_all := lw_g (lw_at lw_m1 96 rfl) rfl
theorem q233 : (Jvm.Cond.soleField "MovedSpan$River" "goal") ∈ lw_all := lw_g (lw_at lw_m1 97 rfl) rfl
theorem q234 : (Jvm.Cond.laysFinal "MovedSpan$River" "MovedSpan$River" "by" "[I") ∈ lw_all := lw_g (lw_at lw_m1 98 rfl) rfl
theorem q235 : (Jvm.Cond.soleField "MovedSpan$River" "by") ∈ lw_all := lw_g (lw_at lw_m1 99 rfl) rfl
theorem q236 : (Jvm.Cond.laysFinal "MovedSpan$River" "MovedSpan$River" "words" "[I") ∈ lw_all := lw_g (lw_at lw_m1 100 rfl) rfl
theorem q237 : (Jvm.Cond.soleField "MovedSpan$River" "words") ∈ lw_all := lw_g (lw_at lw_m1 101 rfl) rfl
theorem q238 : (Jvm.Cond.lays "MovedSpan$River" "MovedSpan$River" "gaps" "I") ∈ lw_all := lw_g (lw_at lw_m1 102 rfl) rfl
theorem q239 : (Jvm.Cond.soleField "MovedSpan$River" "gaps") ∈ lw_all := lw_g (lw_at lw_m1 103 rfl) rfl
theorem q240 : (Jvm.Cond.lays "MovedSpan$River" "MovedSpan$River" "week" "I") ∈ lw_all := lw_g (lw_at lw_m1 104 rfl) rfl
theorem q241 : (Jvm.Cond.soleField "MovedSpan$River" "week") ∈ lw_all := lw_g (lw_at lw_m1 105 rfl) rfl
theorem q242 : (Jvm.Cond.lays "MovedSpan$River" "MovedSpan$River" "people" "I") ∈ lw_all := lw_g (lw_at lw_m1 106 rfl) rfl
theorem q243 : (Jvm.Cond.soleField "MovedSpan$River" "people") ∈ lw_all := lw_g (lw_at lw_m1 107 rfl) rfl
theorem q244 : (Jvm.Cond.lays "MovedSpan$River" "MovedSpan$River" "foggy" "I") ∈ lw_all := lw_g (lw_at lw_m1 108 rfl) rfl
theorem q245 : (Jvm.Cond.soleField "MovedSpan$River" "foggy") ∈ lw_all := lw_g (lw_at lw_m1 109 rfl) rfl
theorem q246 : (Jvm.Cond.lays "MovedSpan$River" "MovedSpan$River" "hour" "I") ∈ lw_all := lw_g (lw_at lw_m1 110 rfl) rfl
theorem q247 : (Jvm.Cond.soleField "MovedSpan$River" "hour") ∈ lw_all := lw_g (lw_at lw_m1 111 rfl) rfl
theorem q248 : (Jvm.Cond.lays "MovedSpan$River" "MovedSpan$River" "lines" "I") ∈ lw_all := lw_g (lw_at lw_m1 112 rfl) rfl
theorem q249 : (Jvm.Cond.soleField "MovedSpan$River" "lines") ∈ lw_all := lw_g (lw_at lw_m1 113 rfl) rfl
theorem q250 : (Jvm.Cond.lays "MovedSpan$River" "MovedSpan$River" "walks" "LMovedSpan$Truth;") ∈ lw_all := lw_g (lw_at lw_m1 114 rfl) rfl
theorem q251 : (Jvm.Cond.soleField "MovedSpan$River" "walks") ∈ lw_all := lw_g (lw_at lw_m1 115 rfl) rfl
theorem q252 : (Jvm.Cond.lays "MovedSpan$River" "MovedSpan$River" "serves" "LMovedSpan$Truth;") ∈ lw_all := lw_g (lw_at lw_m1 116 rfl) rfl
theorem q253 : (Jvm.Cond.soleField "MovedSpan$River" "serves") ∈ lw_all := lw_g (lw_at lw_m1 117 rfl) rfl
theorem q254 : (Jvm.Cond.superclass "MovedSpan$River" "java/lang/Object") ∈ lw_all := lw_g (lw_at lw_m1 118 rfl) rfl
theorem q940 : (Jvm.Cond.instanceMethod ({ cls := "MovedSpan$River", name := "serves", desc := "(IIII)Z" } : Jvm.MethodName)) ∈ lw_all := lw_g (lw_at lw_m4 84 rfl) rfl
theorem q941 : (Jvm.Cond.selects "MovedSpan$River" ({ cls := "MovedSpan$River", name := "serves", desc := "(IIII)Z" } : Jvm.MethodName) ({ cls := "MovedSpan$River", name := "serves", desc := "(IIII)Z" } : Jvm.MethodName)) ∈ lw_all := lw_g (lw_at lw_m4 85 rfl) rfl
theorem q942 : (Jvm.Cond.code ({ cls := "MovedSpan$River", name := "serves", desc := "(IIII)Z" } : Jvm.MethodName) prog_14_method_4_code (5 : Nat) (Option.some Jvm.ClassFile.FieldType.boolean)) ∈ lw_all := lw_g (lw_at lw_m4 86 rfl) rfl
theorem q943 : (Jvm.Cond.methodLink "MovedSpan$River" (41 : Nat) ({ cls := "MovedSpan$River", name := "lays", desc := "(IIII)V" } : Jvm.MethodName)) ∈ lw_all := lw_g (lw_at lw_m4 87 rfl) rfl
theorem q944 : (Jvm.Cond.privateMethod ({ cls := "MovedSpan$River", name := "lays", desc := "(IIII)V" } : Jvm.MethodName)) ∈ lw_tbl := lw_at lw_m4 88 rfl
theorem q945 : (Jvm.Cond.instanceMethod ({ cls := "MovedSpan$River", name := "lays", desc := "(IIII)V" } : Jvm.MethodName)) ∈ lw_all := lw_g (lw_at lw_m4 89 rfl) rfl
theorem q946 : (Jvm.Cond.code ({ cls := "MovedSpan$River", name := "lays", desc := "(IIII)V" } : Jvm.MethodName) prog_14_method_2_code (5 : Nat) (Option.none : Option Jvm.ClassFile.FieldType)) ∈ lw_all := lw_g (lw_at lw_m4 90 rfl) rfl
theorem q947 : (Jvm.Cond.methodLink "MovedSpan$River" (45 : Nat) ({ cls := "MovedSpan$Truth", name := "holds", desc := "([I)Z" } : Jvm.MethodName)) ∈ lw_all := lw_g (lw_at lw_m4 91 rfl) rfl
theorem q983 : (Jvm.Cond.instanceMethod ({ cls := "MovedSpan$River", name := "walks", desc := "(IIIII)Z" } : Jvm.MethodName)) ∈ lw_all := lw_g (lw_at lw_m4 127 rfl) rfl
theorem q984 : (Jvm.Cond.selects "MovedSpan$River" ({ cls := "MovedSpan$River", name := "walks", desc := "(IIIII)Z" } : Jvm.MethodName) ({ cls := "MovedSpan$River", name := "walks", desc := "(IIIII)Z" } : Jvm.MethodName)) ∈ lw_all := lw_g (lw_at lw_m4 128 rfl) rfl
theorem q985 : (Jvm.Cond.code ({ cls := "MovedSpan$River", name := "walks", desc := "(IIIII)Z" } : Jvm.MethodName) prog_14_method_3_code (6 : Nat) (Option.some Jvm.ClassFile.FieldType.boolean)) ∈ lw_all := lw_g (lw_at lw_m4 129 rfl) rfl
theorem q1103 : (Jvm.Cond.instanceMethod ({ cls := "MovedSpan$River", name := "isSpot", desc := "(J)Z" } : Jvm.MethodName)) ∈ lw_all := lw_g (lw_at lw_m5 7 rfl) rfl
theorem q1104 : (Jvm.Cond.selects "MovedSpan$River" ({ cls := "MovedSpan$River", name := "isSpot", desc := "(J)Z" } : Jvm.MethodName) ({ cls := "MovedSpan$River", name := "isSpot", desc := "(J)Z" } : Jvm.MethodName)) ∈ lw_all := lw_g (lw_at lw_m5 8 rfl) rfl
theorem q1105 : (Jvm.Cond.code ({ cls := "MovedSpan$River", name := "isSpot", desc := "(J)Z" } : Jvm.MethodName) prog_14_method_5_code (3 : Nat) (Option.some Jvm.ClassFile.FieldType.boolean)) ∈ lw_all := lw_g (lw_at lw_m5 9 rfl) rfl
theorem q1106 : (Jvm.Cond.methodLinkNest "MovedSpan$River" (54 : Nat) ({ cls := "MovedSpan", name := "in", desc := "(JJJ)Z" } : Jvm.MethodName) "MovedSpan") ∈ lw_tbl := lw_at lw_m5 10 rfl
theorem q1107 : (Jvm.Cond.constantLong "MovedSpan$River" (58 : Nat) (8 : Int64)) ∈ lw_all := lw_g (lw_at lw_m5 11 rfl) rfl
theorem q1240 : (Jvm.Cond.instanceMethod ({ cls := "MovedSpan$River", name := "errands", desc := "()I" } : Jvm.MethodName)) ∈ lw_all := lw_g (lw_at lw_m5 144 rfl) rfl
theorem q1241 : (Jvm.Cond.selects "MovedSpan$River" ({ cls := "MovedSpan$River", name := "errands", desc := "()I" } : Jvm.MethodName) ({ cls := "MovedSpan$River", name := "errands", desc := "()I" } : Jvm.MethodName)) ∈ lw_all := lw_g (lw_at lw_m5 145 rfl) rfl
theorem q1242 : (Jvm.Cond.code ({ cls := "MovedSpan$River", name := "errands", desc := "()I" } : Jvm.MethodName) prog_14_method_6_code (3 : Nat) (Option.some Jvm.ClassFile.FieldType.int)) ∈ lw_all := lw_g (lw_at lw_m5 146 rfl) rfl
theorem in_X1 : ∀ w ∈ wsX10, w ∈ lw_all := lw_in wsX10 [226, 228, 230, 232, 234, 236, 238, 240, 242, 244, 246, 248, 250, 252] (by decide +kernel) (by decide +kernel)
abbrev cX2_init : ByteArray := prog_2_method_1_code
abbrev cX2_gap : ByteArray := prog_2_method_4_code
def RX2 : String := "MovedSpan$Act"
def yX2_init : MethodName := ⟨RX2, "<init>", "(LMovedSpan;)V"⟩
def yX2_gap : MethodName := ⟨RX2, "gap", "(II)I"⟩
theorem q139 : (Jvm.Cond.initialized "MovedSpan$Act") ∈ lw_all := lw_g (lw_at lw_m1 3 rfl) rfl
theorem q264 : (Jvm.Cond.instanceMethod ({ cls := "MovedSpan$Act", name := "<init>", desc := "(LMovedSpan;)V" } : Jvm.MethodName)) ∈ lw_all := lw_g (lw_at lw_m1 128 rfl) rfl
theorem q265 : (Jvm.Cond.code ({ cls := "MovedSpan$Act", name := "<init>", desc := "(LMovedSpan;)V" } : Jvm.MethodName) prog_2_method_1_code (2 : Nat) (Option.none : Option Jvm.ClassFile.FieldType)) ∈ lw_all := lw_g (lw_at lw_m1 129 rfl) rfl
theorem q266 : (Jvm.Cond.methodLink "MovedSpan$Act" (9 : Nat) ({ cls := "java/lang/Object", name := "<init>", desc := "()V" } : Jvm.MethodName)) ∈ lw_all := lw_g (lw_at lw_m1 130 rfl) rfl
theorem q269 : (Jvm.Cond.fieldLink "MovedSpan$Act" (3 : Nat) "MovedSpan$Act" "this$0" "LMovedSpan;") ∈ lw_all := lw_g (lw_at lw_m1 133 rfl) rfl
theorem q275 : (Jvm.Cond.soleField "MovedSpan$Act" "this$0") ∈ lw_all := lw_g (lw_at lw_m1 139 rfl) rfl
theorem q897 : (Jvm.Cond.declares ({ cls := "MovedSpan$Act", name := "leads", desc := "(II)I" } : Jvm.MethodName)) ∈ lw_tbl := lw_at lw_m4 41 rfl
theorem q898 : (Jvm.Cond.sameMethod "MovedSpan$Act" "MovedSpan$Act" "leads" "(II)I") ∈ lw_all := lw_g (lw_at lw_m4 42 rfl) rfl
theorem q917 : (Jvm.Cond.instanceMethod ({ cls := "MovedSpan$Act", name := "gap", desc := "(II)I" } : Jvm.MethodName)) ∈ lw_all := lw_g (lw_at lw_m4 61 rfl) rfl
theorem q918 : (Jvm.Cond.sameMethod "MovedSpan$Act" "MovedSpan$Act" "gap" "(II)I") ∈ lw_all := lw_g (lw_at lw_m4 62 rfl) rfl
theorem q923 : (Jvm.Cond.code ({ cls := "MovedSpan$Act", name := "gap", desc := "(II)I" } : Jvm.MethodName) prog_2_method_4_code (3 : Nat) (Option.some Jvm.ClassFile.FieldType.int)) ∈ lw_all := lw_g (lw_at lw_m4 67 rfl) rfl
theorem q925 : (Jvm.Cond.declares ({ cls := "MovedSpan$Act", name := "isServed", desc := "()Z" } : Jvm.MethodName)) ∈ lw_tbl := lw_at lw_m4 69 rfl
theorem q926 : (Jvm.Cond.sameMethod "MovedSpan$Act" "MovedSpan$Act" "isServed" "()Z") ∈ lw_all := lw_g (lw_at lw_m4 70 rfl) rfl
abbrev cX3_init : ByteArray := prog_18_method_1_code
abbrev cX3_leads : ByteArray := prog_18_method_2_code
abbrev cX3_isServed : ByteArray := prog_18_method_3_code
def RX3 : String := "MovedSpan$Walk"
def TX3 : u_T := fun k => match k with
  | 0 => ("MovedSpan$Act", "this$0", "LMovedSpan;", true)
  | 1 => ("MovedSpan$Walk", "step", "I", true)
  | _ => ("MovedSpan$Walk", "this$0", "LMovedSpan;", true)
def tyX3 : Nat → FieldType := fun k => match k with
  | 0 => .object "MovedSpan"
  | 1 => .int
  | _ => .object "MovedSpan"
abbrev wsX30 : List Cond := u_ws RX3 TX3 3
-- two fields of one name: no nmX3
theorem tyX3_ok : ∀ k, k < 3 → parseFieldDescriptor (TX3 k).2.2.1 = some (tyX3 k) := by decide +kernel
def yX3_init : MethodName := ⟨RX3, "<init>", "(LMovedSpan;I)V"⟩
def yX3_leads : MethodName := ⟨RX3, "leads", "(II)I"⟩
def yX3_isServed : MethodName := ⟨RX3, "isServed", "()Z"⟩
theorem q140 : (Jvm.Cond.initialized "MovedSpan$Walk") ∈ lw_all := lw_g (lw_at lw_m1 4 rfl) rfl
theorem q204 : (Jvm.Cond.fieldLinkNest "MovedSpan$Walk" (23 : Nat) "MovedSpan$River" "gaps" "I" "MovedSpan") ∈ lw_tbl := lw_at lw_m1 68 rfl
theorem q259 : (Jvm.Cond.instantiable "MovedSpan$Walk" (3 : Nat)) ∈ lw_all := lw_g (lw_at lw_m1 123 rfl) rfl
theorem q261 : (Jvm.Cond.instanceMethod ({ cls := "MovedSpan$Walk", name := "<init>", desc := "(LMovedSpan;I)V" } : Jvm.MethodName)) ∈ lw_all := lw_g (lw_at lw_m1 125 rfl) rfl
theorem q262 : (Jvm.Cond.code ({ cls := "MovedSpan$Walk", name := "<init>", desc := "(LMovedSpan;I)V" } : Jvm.MethodName) prog_18_method_1_code (3 : Nat) (Option.none : Option Jvm.ClassFile.FieldType)) ∈ lw_all := lw_g (lw_at lw_m1 126 rfl) rfl
theorem q263 : (Jvm.Cond.methodLinkNest "MovedSpan$Walk" (9 : Nat) ({ cls := "MovedSpan$Act", name := "<init>", desc := "(LMovedSpan;)V" } : Jvm.MethodName) "MovedSpan") ∈ lw_tbl := lw_at lw_m1 127 rfl
theorem q267 : (Jvm.Cond.fieldLink "MovedSpan$Walk" (15 : Nat) "MovedSpan$Walk" "step" "I") ∈ lw_all := lw_g (lw_at lw_m1 131 rfl) rfl
theorem q268 : (Jvm.Cond.fieldLink "MovedSpan$Walk" (3 : Nat) "MovedSpan$Walk" "this$0" "LMovedSpan;") ∈ lw_all := lw_g (lw_at lw_m1 132 rfl) rfl
theorem q270 : (Jvm.Cond.laysFinal "MovedSpan$Walk" "MovedSpan$Walk" "step" "I") ∈ lw_all := lw_g (lw_at lw_m1 134 rfl) rfl
theorem q271 : (Jvm.Cond.soleField "MovedSpan$Walk" "step") ∈ lw_all := lw_g (lw_at lw_m1 135 rfl) rfl
theorem q272 : (Jvm.Cond.laysFinal "MovedSpan$Walk" "MovedSpan$Walk" "this$0" "LMovedSpan;") ∈ lw_all := lw_g (lw_at lw_m1 136 rfl) rfl
theorem q273 : (Jvm.Cond.soleField "MovedSpan$Walk" "this$0") ∈ lw_all := lw_g (lw_at lw_m1 137 rfl) rfl
theorem q274 : (Jvm.Cond.laysFinal "MovedSpan$Walk" "MovedSpan$Act" "this$0" "LMovedSpan;") ∈ lw_all := lw_g (lw_at lw_m1 138 rfl) rfl
theorem q276 : (Jvm.Cond.superclass "MovedSpan$Walk" "MovedSpan$Act") ∈ lw_all := lw_g (lw_at lw_m1 140 rfl) rfl
theorem q374 : (Jvm.Cond.fieldLinkNest "MovedSpan$Walk" (19 : Nat) "MovedSpan" "its" "LMovedSpan$River;" "MovedSpan") ∈ lw_tbl := lw_at lw_m1 238 rfl
theorem q908 : (Jvm.Cond.selects "MovedSpan$Walk" ({ cls := "MovedSpan$Act", name := "leads", desc := "(II)I" } : Jvm.MethodName) ({ cls := "MovedSpan$Walk", name := "leads", desc := "(II)I" } : Jvm.MethodName)) ∈ lw_all := lw_g (lw_at lw_m4 52 rfl) rfl
theorem q909 : (Jvm.Cond.instanceMethod ({ cls := "MovedSpan$Walk", name := "leads", desc := "(II)I" } : Jvm.MethodName)) ∈ lw_all := lw_g (lw_at lw_m4 53 rfl) rfl
theorem q910 : (Jvm.Cond.code ({ cls := "MovedSpan$Walk", name := "leads", desc := "(II)I" } : Jvm.MethodName) prog_18_method_2_code (3 : Nat) (Option.some Jvm.ClassFile.FieldType.int)) ∈ lw_all := lw_g (lw_at lw_m4 54 rfl) rfl
theorem q911 : (Jvm.Cond.methodLinkNest "MovedSpan$Walk" (28 : Nat) ({ cls := "MovedSpan", name := "in", desc := "(JJJ)Z" } : Jvm.MethodName) "MovedSpan") ∈ lw_tbl := lw_at lw_m4 55 rfl
theorem q922 : (Jvm.Cond.selects "MovedSpan$Walk" ({ cls := "MovedSpan$Act", name := "gap", desc := "(II)I" } : Jvm.MethodName) ({ cls := "MovedSpan$Act", name := "gap", desc := "(II)I" } : Jvm.MethodName)) ∈ lw_all := lw_g (lw_at lw_m4 66 rfl) rfl
theorem q936 : (Jvm.Cond.selects "MovedSpan$Walk" ({ cls := "MovedSpan$Act", name := "isServed", desc := "()Z" } : Jvm.MethodName) ({ cls := "MovedSpan$Walk", name := "isServed", desc := "()Z" } : Jvm.MethodName)) ∈ lw_all := lw_g (lw_at lw_m4 80 rfl) rfl
theorem q937 : (Jvm.Cond.instanceMethod ({ cls := "MovedSpan$Walk", name := "isServed", desc := "()Z" } : Jvm.MethodName)) ∈ lw_all := lw_g (lw_at lw_m4 81 rfl) rfl
theorem q938 : (Jvm.Cond.code ({ cls := "MovedSpan$Walk", name := "isServed", desc := "()Z" } : Jvm.MethodName) prog_18_method_3_code (1 : Nat) (Option.some Jvm.ClassFile.FieldType.boolean)) ∈ lw_all := lw_g (lw_at lw_m4 82 rfl) rfl
theorem q2088 : (Jvm.Cond.castable "MovedSpan$Walk" "MovedSpan$Act") ∈ lw_tbl := lw_at lw_m9 32 rfl
theorem in_X3 : ∀ w ∈ wsX30, w ∈ lw_all := lw_in wsX30 [274, 270, 272] (by decide +kernel) (by decide +kernel)
abbrev cX4_init : ByteArray := prog_5_method_1_code
abbrev cX4_leads : ByteArray := prog_5_method_2_code
abbrev cX4_isServed : ByteArray := prog_5_method_3_code
def RX4 : String := "MovedSpan$Cross"
def TX4 : u_T := fun k => match k with
  | 0 => ("MovedSpan$Act", "this$0", "LMovedSpan;", true)
  | _ => ("MovedSpan$Cross", "this$0", "LMovedSpan;", true)
def tyX4 : Nat → FieldType := fun k => match k with
  | 0 => .object "MovedSpan"
  | _ => .object "MovedSpan"
abbrev wsX40 : List Cond := u_ws RX4 TX4 2
-- two fields of one name: no nmX4
theorem tyX4_ok : ∀ k, k < 2 → parseFieldDescriptor (TX4 k).2.2.1 = some (tyX4 k) := by decide +kernel
def yX4_init : MethodName := ⟨RX4, "<init>", "(LMovedSpan;)V"⟩
def yX4_leads : MethodName := ⟨RX4, "leads", "(II)I"⟩
def yX4_isServed : MethodName := ⟨RX4, "isServed", "()Z"⟩
theorem q141 : (Jvm.Cond.initialized "MovedSpan$Cross") ∈ lw_all := lw_g (lw_at lw_m1 5 rfl) rfl
theorem q278 : (Jvm.Cond.instantiable "MovedSpan$Cross" (2 : Nat)) ∈ lw_all := lw_g (lw_at lw_m1 142 rfl) rfl
theorem q280 : (Jvm.Cond.instanceMethod ({ cls := "MovedSpan$Cross", name := "<init>", desc := "(LMovedSpan;)V" } : Jvm.MethodName)) ∈ lw_all := lw_g (lw_at lw_m1 144 rfl) rfl
theorem q281 : (Jvm.Cond.code ({ cls := "MovedSpan$Cross", name := "<init>", desc := "(LMovedSpan;)V" } : Jvm.MethodName) prog_5_method_1_code (2 : Nat) (Option.none : Option Jvm.ClassFile.FieldType)) ∈ lw_all := lw_g (lw_at lw_m1 145 rfl) rfl
theorem q282 : (Jvm.Cond.methodLinkNest "MovedSpan$Cross" (9 : Nat) ({ cls := "MovedSpan$Act", name := "<init>", desc := "(LMovedSpan;)V" } : Jvm.MethodName) "MovedSpan") ∈ lw_tbl := lw_at lw_m1 146 rfl
theorem q283 : (Jvm.Cond.fieldLink "MovedSpan$Cross" (3 : Nat) "MovedSpan$Cross" "this$0" "LMovedSpan;") ∈ lw_all := lw_g (lw_at lw_m1 147 rfl) rfl
theorem q284 : (Jvm.Cond.laysFinal "MovedSpan$Cross" "MovedSpan$Cross" "this$0" "LMovedSpan;") ∈ lw_all := lw_g (lw_at lw_m1 148 rfl) rfl
theorem q285 : (Jvm.Cond.soleField "MovedSpan$Cross" "this$0") ∈ lw_all := lw_g (lw_at lw_m1 149 rfl) rfl
theorem q286 : (Jvm.Cond.laysFinal "MovedSpan$Cross" "MovedSpan$Act" "this$0" "LMovedSpan;") ∈ lw_all := lw_g (lw_at lw_m1 150 rfl) rfl
theorem q287 : (Jvm.Cond.superclass "MovedSpan$Cross" "MovedSpan$Act") ∈ lw_all := lw_g (lw_at lw_m1 151 rfl) rfl
theorem q899 : (Jvm.Cond.selects "MovedSpan$Cross" ({ cls := "MovedSpan$Act", name := "leads", desc := "(II)I" } : Jvm.MethodName) ({ cls := "MovedSpan$Cross", name := "leads", desc := "(II)I" } : Jvm.MethodName)) ∈ lw_all := lw_g (lw_at lw_m4 43 rfl) rfl
theorem q900 : (Jvm.Cond.instanceMethod ({ cls := "MovedSpan$Cross", name := "leads", desc := "(II)I" } : Jvm.MethodName)) ∈ lw_all := lw_g (lw_at lw_m4 44 rfl) rfl
theorem q901 : (Jvm.Cond.code ({ cls := "MovedSpan$Cross", name := "leads", desc := "(II)I" } : Jvm.MethodName) prog_5_method_2_code (3 : Nat) (Option.some Jvm.ClassFile.FieldType.int)) ∈ lw_all := lw_g (lw_at lw_m4 45 rfl) rfl
theorem q919 : (Jvm.Cond.selects "MovedSpan$Cross" ({ cls := "MovedSpan$Act", name := "gap", desc := "(II)I" } : Jvm.MethodName) ({ cls := "MovedSpan$Act", name := "gap", desc := "(II)I" } : Jvm.MethodName)) ∈ lw_all := lw_g (lw_at lw_m4 63 rfl) rfl
theorem q927 : (Jvm.Cond.selects "MovedSpan$Cross" ({ cls := "MovedSpan$Act", name := "isServed", desc := "()Z" } : Jvm.MethodName) ({ cls := "MovedSpan$Cross", name := "isServed", desc := "()Z" } : Jvm.MethodName)) ∈ lw_all := lw_g (lw_at lw_m4 71 rfl) rfl
theorem q928 : (Jvm.Cond.instanceMethod ({ cls := "MovedSpan$Cross", name := "isServed", desc := "()Z" } : Jvm.MethodName)) ∈ lw_all := lw_g (lw_at lw_m4 72 rfl) rfl
theorem q929 : (Jvm.Cond.code ({ cls := "MovedSpan$Cross", name := "isServed", desc := "()Z" } : Jvm.MethodName) prog_5_method_3_code (1 : Nat) (Option.some Jvm.ClassFile.FieldType.boolean)) ∈ lw_all := lw_g (lw_at lw_m4 73 rfl) rfl
theorem q2089 : (Jvm.Cond.castable "MovedSpan$Cross" "MovedSpan$Act") ∈ lw_tbl := lw_at lw_m9 33 rfl
theorem in_X4 : ∀ w ∈ wsX40, w ∈ lw_all := lw_in wsX40 [286, 284] (by decide +kernel) (by decide +kernel)
abbrev cX5_init : ByteArray := prog_7_method_1_code
abbrev cX5_leads : ByteArray := prog_7_method_2_code
abbrev cX5_isServed : ByteArray := prog_7_method_3_code
def RX5 : String := "MovedSpan$GetOn"
def TX5 : u_T := fun k => match k with
  | 0 => ("MovedSpan$Act", "this$0", "LMovedSpan;", true)
  | _ => ("MovedSpan$GetOn", "this$0", "LMovedSpan;", true)
def tyX5 : Nat → FieldType := fun k => match k with
  | 0 => .object "MovedSpan"
  | _ => .object "MovedSpan"
abbrev wsX50 : List Cond := u_ws RX5 TX5 2
-- two fields of one name: no nmX5
theorem tyX5_ok : ∀ k, k < 2 → parseFieldDescriptor (TX5 k).2.2.1 = some (tyX5 k) := by decide +kernel
def yX5_init : MethodName := ⟨RX5, "<init>", "(LMovedSpan;)V"⟩
def yX5_leads : MethodName := ⟨RX5, "leads", "(II)I"⟩
def yX5_isServed : MethodName := ⟨RX5, "isServed", "()Z"⟩
theorem q142 : (Jvm.Cond.initialized "MovedSpan$GetOn") ∈ lw_all := lw_g (lw_at lw_m1 6 rfl) rfl
theorem q289 : (Jvm.Cond.instantiable "MovedSpan$GetOn" (2 : Nat)) ∈ lw_all := lw_g (lw_at lw_m1 153 rfl) rfl
theorem q291 : (Jvm.Cond.instanceMethod ({ cls := "MovedSpan$GetOn", name := "<init>", desc := "(LMovedSpan;)V" } : Jvm.MethodName)) ∈ lw_all := lw_g (lw_at lw_m1 155 rfl) rfl
theorem q292 : (Jvm.Cond.code ({ cls := "MovedSpan$GetOn", name := "<init>", desc := "(LMovedSpan;)V" } : Jvm.MethodName) prog_7_method_1_code (2 : Nat) (Option.none : Option Jvm.ClassFile.FieldType)) ∈ lw_all := lw_g (lw_at lw_m1 156 rfl) rfl
theorem q293 : (Jvm.Cond.methodLinkNest "MovedSpan$GetOn" (9 : Nat) ({ cls := "MovedSpan$Act", name := "<init>", desc := "(LMovedSpan;)V" } : Jvm.MethodName) "MovedSpan") ∈ lw_tbl := lw_at lw_m1 157 rfl
theorem q294 : (Jvm.Cond.fieldLink "MovedSpan$GetOn" (3 : Nat) "MovedSpan$GetOn" "this$0" "LMovedSpan;") ∈ lw_all := lw_g (lw_at lw_m1 158 rfl) rfl
theorem q295 : (Jvm.Cond.laysFinal "MovedSpan$GetOn" "MovedSpan$GetOn" "this$0" "LMovedSpan;") ∈ lw_all := lw_g (lw_at lw_m1 159 rfl) rfl
theorem q296 : (Jvm.Cond.soleField "MovedSpan$GetOn" "this$0") ∈ lw_all := lw_g (lw_at lw_m1 160 rfl) rfl
theorem q297 : (Jvm.Cond.laysFinal "MovedSpan$GetOn" "MovedSpan$Act" "this$0" "LMovedSpan;") ∈ lw_all := lw_g (lw_at lw_m1 161 rfl) rfl
theorem q298 : (Jvm.Cond.superclass "MovedSpan$GetOn" "MovedSpan$Act") ∈ lw_all := lw_g (lw_at lw_m1 162 rfl) rfl
theorem q905 : (Jvm.Cond.selects "MovedSpan$GetOn" ({ cls := "MovedSpan$Act", name := "leads", desc := "(II)I" } : Jvm.MethodName) ({ cls := "MovedSpan$GetOn", name := "leads", desc := "(II)I" } : Jvm.MethodName)) ∈ lw_all := lw_g (lw_at lw_m4 49 rfl) rfl
theorem q906 : (Jvm.Cond.instanceMethod ({ cls := "MovedSpan$GetOn", name := "leads", desc := "(II)I" } : Jvm.MethodName)) ∈ lw_all := lw_g (lw_at lw_m4 50 rfl) rfl
theorem q907 : (Jvm.Cond.code ({ cls := "MovedSpan$GetOn", name := "leads", desc := "(II)I" } : Jvm.MethodName) prog_7_method_2_code (3 : Nat) (Option.some Jvm.ClassFile.FieldType.int)) ∈ lw_all := lw_g (lw_at lw_m4 51 rfl) rfl
theorem q921 : (Jvm.Cond.selects "MovedSpan$GetOn" ({ cls := "MovedSpan$Act", name := "gap", desc := "(II)I" } : Jvm.MethodName) ({ cls := "MovedSpan$Act", name := "gap", desc := "(II)I" } : Jvm.MethodName)) ∈ lw_all := lw_g (lw_at lw_m4 65 rfl) rfl
theorem q933 : (Jvm.Cond.selects "MovedSpan$GetOn" ({ cls := "MovedSpan$Act", name := "isServed", desc := "()Z" } : Jvm.MethodName) ({ cls := "MovedSpan$GetOn", name := "isServed", desc := "()Z" } : Jvm.MethodName)) ∈ lw_all := lw_g (lw_at lw_m4 77 rfl) rfl
theorem q934 : (Jvm.Cond.instanceMethod ({ cls := "MovedSpan$GetOn", name := "isServed", desc := "()Z" } : Jvm.MethodName)) ∈ lw_all := lw_g (lw_at lw_m4 78 rfl) rfl
theorem q935 : (Jvm.Cond.code ({ cls := "MovedSpan$GetOn", name := "isServed", desc := "()Z" } : Jvm.MethodName) prog_7_method_3_code (1 : Nat) (Option.some Jvm.ClassFile.FieldType.boolean)) ∈ lw_all := lw_g (lw_at lw_m4 79 rfl) rfl
theorem q2090 : (Jvm.Cond.castable "MovedSpan$GetOn" "MovedSpan$Act") ∈ lw_tbl := lw_at lw_m9 34 rfl
theorem in_X5 : ∀ w ∈ wsX50, w ∈ lw_all := lw_in wsX50 [297, 295] (by decide +kernel) (by decide +kernel)
abbrev cX6_init : ByteArray := prog_6_method_1_code
abbrev cX6_leads : ByteArray := prog_6_method_2_code
abbrev cX6_isServed : ByteArray := prog_6_method_3_code
def RX6 : String := "MovedSpan$GetOff"
def TX6 : u_T := fun k => match k with
  | 0 => ("MovedSpan$Act", "this$0", "LMovedSpan;", true)
  | 1 => ("MovedSpan$GetOff", "side", "I", true)
  | _ => ("MovedSpan$GetOff", "this$0", "LMovedSpan;", true)
def tyX6 : Nat → FieldType := fun k => match k with
  | 0 => .object "MovedSpan"
  | 1 => .int
  | _ => .object "MovedSpan"
abbrev wsX60 : List Cond := u_ws RX6 TX6 3
-- two fields of one name: no nmX6
theorem tyX6_ok : ∀ k, k < 3 → parseFieldDescriptor (TX6 k).2.2.1 = some (tyX6 k) := by decide +kernel
def yX6_init : MethodName := ⟨RX6, "<init>", "(LMovedSpan;I)V"⟩
def yX6_leads : MethodName := ⟨RX6, "leads", "(II)I"⟩
def yX6_isServed : MethodName := ⟨RX6, "isServed", "()Z"⟩
theorem q143 : (Jvm.Cond.initialized "MovedSpan$GetOff") ∈ lw_all := lw_g (lw_at lw_m1 7 rfl) rfl
theorem q300 : (Jvm.Cond.instantiable "MovedSpan$GetOff" (3 : Nat)) ∈ lw_all := lw_g (lw_at lw_m1 164 rfl) rfl
theorem q302 : (Jvm.Cond.instanceMethod ({ cls := "MovedSpan$GetOff", name := "<init>", desc := "(LMovedSpan;I)V" } : Jvm.MethodName)) ∈ lw_all := lw_g (lw_at lw_m1 166 rfl) rfl
theorem q303 : (Jvm.Cond.code ({ cls := "MovedSpan$GetOff", name := "<init>", desc := "(LMovedSpan;I)V" } : Jvm.MethodName) prog_6_method_1_code (3 : Nat) (Option.none : Option Jvm.ClassFile.FieldType)) ∈ lw_all := lw_g (lw_at lw_m1 167 rfl) rfl
theorem q304 : (Jvm.Cond.methodLinkNest "MovedSpan$GetOff" (9 : Nat) ({ cls := "MovedSpan$Act", name := "<init>", desc := "(LMovedSpan;)V" } : Jvm.MethodName) "MovedSpan") ∈ lw_tbl := lw_at lw_m1 168 rfl
theorem q305 : (Jvm.Cond.fieldLink "MovedSpan$GetOff" (15 : Nat) "MovedSpan$GetOff" "side" "I") ∈ lw_all := lw_g (lw_at lw_m1 169 rfl) rfl
theorem q306 : (Jvm.Cond.fieldLink "MovedSpan$GetOff" (3 : Nat) "MovedSpan$GetOff" "this$0" "LMovedSpan;") ∈ lw_all := lw_g (lw_at lw_m1 170 rfl) rfl
theorem q307 : (Jvm.Cond.laysFinal "MovedSpan$GetOff" "MovedSpan$GetOff" "side" "I") ∈ lw_all := lw_g (lw_at lw_m1 171 rfl) rfl
theorem q308 : (Jvm.Cond.soleField "MovedSpan$GetOff" "side") ∈ lw_all := lw_g (lw_at lw_m1 172 rfl) rfl
theorem q309 : (Jvm.Cond.laysFinal "MovedSpan$GetOff" "MovedSpan$GetOff" "this$0" "LMovedSpan;") ∈ lw_all := lw_g (lw_at lw_m1 173 rfl) rfl
theorem q310 : (Jvm.Cond.soleField "MovedSpan$GetOff" "this$0") ∈ lw_all := lw_g (lw_at lw_m1 174 rfl) rfl
theorem q311 : (Jvm.Cond.laysFinal "MovedSpan$GetOff" "MovedSpan$Act" "this$0" "LMovedSpan;") ∈ lw_all := lw_g (lw_at lw_m1 175 rfl) rfl
theorem q312 : (Jvm.Cond.superclass "MovedSpan$GetOff" "MovedSpan$Act") ∈ lw_all := lw_g (lw_at lw_m1 176 rfl) rfl
theorem q902 : (Jvm.Cond.selects "MovedSpan$GetOff" ({ cls := "MovedSpan$Act", name := "leads", desc := "(II)I" } : Jvm.MethodName) ({ cls := "MovedSpan$GetOff", name := "leads", desc := "(II)I" } : Jvm.MethodName)) ∈ lw_all := lw_g (lw_at lw_m4 46 rfl) rfl
theorem q903 : (Jvm.Cond.instanceMethod ({ cls := "MovedSpan$GetOff", name := "leads", desc := "(II)I" } : Jvm.MethodName)) ∈ lw_all := lw_g (lw_at lw_m4 47 rfl) rfl
theorem q904 : (Jvm.Cond.code ({ cls := "MovedSpan$GetOff", name := "leads", desc := "(II)I" } : Jvm.MethodName) prog_6_method_2_code (3 : Nat) (Option.some Jvm.ClassFile.FieldType.int)) ∈ lw_all := lw_g (lw_at lw_m4 48 rfl) rfl
theorem q920 : (Jvm.Cond.selects "MovedSpan$GetOff" ({ cls := "MovedSpan$Act", name := "gap", desc := "(II)I" } : Jvm.MethodName) ({ cls := "MovedSpan$Act", name := "gap", desc := "(II)I" } : Jvm.MethodName)) ∈ lw_all := lw_g (lw_at lw_m4 64 rfl) rfl
theorem q930 : (Jvm.Cond.selects "MovedSpan$GetOff" ({ cls := "MovedSpan$Act", name := "isServed", desc := "()Z" } : Jvm.MethodName) ({ cls := "MovedSpan$GetOff", name := "isServed", desc := "()Z" } : Jvm.MethodName)) ∈ lw_all := lw_g (lw_at lw_m4 74 rfl) rfl
theorem q931 : (Jvm.Cond.instanceMethod ({ cls := "MovedSpan$GetOff", name := "isServed", desc := "()Z" } : Jvm.MethodName)) ∈ lw_all := lw_g (lw_at lw_m4 75 rfl) rfl
theorem q932 : (Jvm.Cond.code ({ cls := "MovedSpan$GetOff", name := "isServed", desc := "()Z" } : Jvm.MethodName) prog_6_method_3_code (1 : Nat) (Option.some Jvm.ClassFile.FieldType.boolean)) ∈ lw_all := lw_g (lw_at lw_m4 76 rfl) rfl
theorem q2091 : (Jvm.Cond.castable "MovedSpan$GetOff" "MovedSpan$Act") ∈ lw_tbl := lw_at lw_m9 35 rfl
theorem in_X6 : ∀ w ∈ wsX60, w ∈ lw_all := lw_in wsX60 [311, 307, 309] (by decide +kernel) (by decide +kernel)
abbrev cX7_init : ByteArray := prog_15_method_1_code
abbrev cX7_begins : ByteArray := prog_15_method_3_code
abbrev cX7_sees : ByteArray := prog_15_method_4_code
abbrev cX7_lies : ByteArray := prog_15_method_5_code
abbrev cX7_whyAct : ByteArray := prog_15_method_6_code
abbrev cX7_be : ByteArray := prog_15_method_2_code
abbrev cX7_goes : ByteArray := prog_15_method_7_code
abbrev cX7_why : ByteArray := prog_15_method_8_code
abbrev cX7_does : ByteArray := prog_15_method_9_code
def RX7 : String := "MovedSpan$State"
def TX7 : u_T := fun k => match k with
  | 0 => ("MovedSpan$State", "plan", "[I", true)
  | 1 => ("MovedSpan$State", "at", "[I", true)
  | 2 => ("MovedSpan$State", "told", "[I", true)
  | 3 => ("MovedSpan$State", "done", "I", false)
  | 4 => ("MovedSpan$State", "fog", "I", false)
  | 5 => ("MovedSpan$State", "hour", "I", false)
  | _ => ("MovedSpan$State", "this$0", "LMovedSpan;", true)
def tyX7 : Nat → FieldType := fun k => match k with
  | 0 => .array .int
  | 1 => .array .int
  | 2 => .array .int
  | 3 => .int
  | 4 => .int
  | 5 => .int
  | _ => .object "MovedSpan"
abbrev wsX70 : List Cond := u_ws RX7 TX7 7
theorem nmX7 : ∀ a, a < 7 → ∀ b, b < 7 → a ≠ b → (TX7 a).2.1 ≠ (TX7 b).2.1 := by decide +kernel
theorem tyX7_ok : ∀ k, k < 7 → parseFieldDescriptor (TX7 k).2.2.1 = some (tyX7 k) := by decide +kernel
def yX7_init : MethodName := ⟨RX7, "<init>", "(LMovedSpan;)V"⟩
def yX7_begins : MethodName := ⟨RX7, "begins", "()V"⟩
def yX7_sees : MethodName := ⟨RX7, "sees", "()V"⟩
def yX7_lies : MethodName := ⟨RX7, "lies", "(I)I"⟩
def yX7_whyAct : MethodName := ⟨RX7, "whyAct", "(JJ)I"⟩
def yX7_be : MethodName := ⟨RX7, "be", "(LMovedSpan$State;)LMovedSpan$State;"⟩
def yX7_goes : MethodName := ⟨RX7, "goes", "()I"⟩
def yX7_why : MethodName := ⟨RX7, "why", "(J)I"⟩
def yX7_does : MethodName := ⟨RX7, "does", "(I)V"⟩
theorem q144 : (Jvm.Cond.initialized "MovedSpan$State") ∈ lw_all := lw_g (lw_at lw_m1 8 rfl) rfl
theorem q186 : (Jvm.Cond.fieldLinkNest "MovedSpan$State" (45 : Nat) "MovedSpan$River" "plan" "[I" "MovedSpan") ∈ lw_tbl := lw_at lw_m1 50 rfl
theorem q189 : (Jvm.Cond.fieldLinkNest "MovedSpan$State" (48 : Nat) "MovedSpan$River" "at" "[I" "MovedSpan") ∈ lw_tbl := lw_at lw_m1 53 rfl
theorem q195 : (Jvm.Cond.fieldLinkNest "MovedSpan$State" (56 : Nat) "MovedSpan$River" "goal" "[I" "MovedSpan") ∈ lw_tbl := lw_at lw_m1 59 rfl
theorem q199 : (Jvm.Cond.fieldLinkNest "MovedSpan$State" (59 : Nat) "MovedSpan$River" "by" "[I" "MovedSpan") ∈ lw_tbl := lw_at lw_m1 63 rfl
theorem q205 : (Jvm.Cond.fieldLinkNest "MovedSpan$State" (112 : Nat) "MovedSpan$River" "gaps" "I" "MovedSpan") ∈ lw_tbl := lw_at lw_m1 69 rfl
theorem q209 : (Jvm.Cond.fieldLinkNest "MovedSpan$State" (62 : Nat) "MovedSpan$River" "week" "I" "MovedSpan") ∈ lw_tbl := lw_at lw_m1 73 rfl
theorem q212 : (Jvm.Cond.fieldLinkNest "MovedSpan$State" (53 : Nat) "MovedSpan$River" "people" "I" "MovedSpan") ∈ lw_tbl := lw_at lw_m1 76 rfl
theorem q218 : (Jvm.Cond.fieldLinkNest "MovedSpan$State" (49 : Nat) "MovedSpan$River" "hour" "I" "MovedSpan") ∈ lw_tbl := lw_at lw_m1 82 rfl
theorem q314 : (Jvm.Cond.instantiable "MovedSpan$State" (7 : Nat)) ∈ lw_all := lw_g (lw_at lw_m1 178 rfl) rfl
theorem q316 : (Jvm.Cond.instanceMethod ({ cls := "MovedSpan$State", name := "<init>", desc := "(LMovedSpan;)V" } : Jvm.MethodName)) ∈ lw_all := lw_g (lw_at lw_m1 180 rfl) rfl
theorem q317 : (Jvm.Cond.code ({ cls := "MovedSpan$State", name := "<init>", desc := "(LMovedSpan;)V" } : Jvm.MethodName) prog_15_method_1_code (2 : Nat) (Option.none : Option Jvm.ClassFile.FieldType)) ∈ lw_all := lw_g (lw_at lw_m1 181 rfl) rfl
theorem q318 : (Jvm.Cond.methodLink "MovedSpan$State" (9 : Nat) ({ cls := "java/lang/Object", name := "<init>", desc := "()V" } : Jvm.MethodName)) ∈ lw_all := lw_g (lw_at lw_m1 182 rfl) rfl
theorem q319 : (Jvm.Cond.fieldLink "MovedSpan$State" (15 : Nat) "MovedSpan$State" "plan" "[I") ∈ lw_all := lw_g (lw_at lw_m1 183 rfl) rfl
theorem q321 : (Jvm.Cond.fieldLink "MovedSpan$State" (19 : Nat) "MovedSpan$State" "at" "[I") ∈ lw_all := lw_g (lw_at lw_m1 185 rfl) rfl
theorem q323 : (Jvm.Cond.fieldLink "MovedSpan$State" (22 : Nat) "MovedSpan$State" "told" "[I") ∈ lw_all := lw_g (lw_at lw_m1 187 rfl) rfl
theorem q325 : (Jvm.Cond.fieldLink "MovedSpan$State" (31 : Nat) "MovedSpan$State" "done" "I") ∈ lw_all := lw_g (lw_at lw_m1 189 rfl) rfl
theorem q327 : (Jvm.Cond.fieldLink "MovedSpan$State" (35 : Nat) "MovedSpan$State" "fog" "I") ∈ lw_all := lw_g (lw_at lw_m1 191 rfl) rfl
theorem q329 : (Jvm.Cond.fieldLink "MovedSpan$State" (38 : Nat) "MovedSpan$State" "hour" "I") ∈ lw_all := lw_g (lw_at lw_m1 193 rfl) rfl
theorem q331 : (Jvm.Cond.fieldLink "MovedSpan$State" (3 : Nat) "MovedSpan$State" "this$0" "LMovedSpan;") ∈ lw_all := lw_g (lw_at lw_m1 195 rfl) rfl
theorem q332 : (Jvm.Cond.laysFinal "MovedSpan$State" "MovedSpan$State" "plan" "[I") ∈ lw_all := lw_g (lw_at lw_m1 196 rfl) rfl
theorem q333 : (Jvm.Cond.soleField "MovedSpan$State" "plan") ∈ lw_all := lw_g (lw_at lw_m1 197 rfl) rfl
theorem q334 : (Jvm.Cond.laysFinal "MovedSpan$State" "MovedSpan$State" "at" "[I") ∈ lw_all := lw_g (lw_at lw_m1 198 rfl) rfl
theorem q335 : (Jvm.Cond.soleField "MovedSpan$State" "at") ∈ lw_all := lw_g (lw_at lw_m1 199 rfl) rfl
theorem q336 : (Jvm.Cond.laysFinal "MovedSpan$State" "MovedSpan$State" "told" "[I") ∈ lw_all := lw_g (lw_at lw_m1 200 rfl) rfl
theorem q337 : (Jvm.Cond.soleField "MovedSpan$State" "told") ∈ lw_all := lw_g (lw_at lw_m1 201 rfl) rfl
theorem q338 : (Jvm.Cond.lays "MovedSpan$State" "MovedSpan$State" "done" "I") ∈ lw_all := lw_g (lw_at lw_m1 202 rfl) rfl
theorem q339 : (Jvm.Cond.soleField "MovedSpan$State" "done") ∈ lw_all := lw_g (lw_at lw_m1 203 rfl) rfl
theorem q340 : (Jvm.Cond.lays "MovedSpan$State" "MovedSpan$State" "fog" "I") ∈ lw_all := lw_g (lw_at lw_m1 204 rfl) rfl
theorem q341 : (Jvm.Cond.soleField "MovedSpan$State" "fog") ∈ lw_all := lw_g (lw_at lw_m1 205 rfl) rfl
theorem q342 : (Jvm.Cond.lays "MovedSpan$State" "MovedSpan$State" "hour" "I") ∈ lw_all := lw_g (lw_at lw_m1 206 rfl) rfl
theorem q343 : (Jvm.Cond.soleField "MovedSpan$State" "hour") ∈ lw_all := lw_g (lw_at lw_m1 207 rfl) rfl
theorem q344 : (Jvm.Cond.laysFinal "MovedSpan$State" "MovedSpan$State" "this$0" "LMovedSpan;") ∈ lw_all := lw_g (lw_at lw_m1 208 rfl) rfl
theorem q345 : (Jvm.Cond.soleField "MovedSpan$State" "this$0") ∈ lw_all := lw_g (lw_at lw_m1 209 rfl) rfl
theorem q346 : (Jvm.Cond.superclass "MovedSpan$State" "java/lang/Object") ∈ lw_all := lw_g (lw_at lw_m1 210 rfl) rfl
theorem q364 : (Jvm.Cond.instanceMethod ({ cls := "MovedSpan$State", name := "begins", desc := "()V" } : Jvm.MethodName)) ∈ lw_all := lw_g (lw_at lw_m1 228 rfl) rfl
theorem q365 : (Jvm.Cond.selects "MovedSpan$State" ({ cls := "MovedSpan$State", name := "begins", desc := "()V" } : Jvm.MethodName) ({ cls := "MovedSpan$State", name := "begins", desc := "()V" } : Jvm.MethodName)) ∈ lw_all := lw_g (lw_at lw_m1 229 rfl) rfl
theorem q366 : (Jvm.Cond.code ({ cls := "MovedSpan$State", name := "begins", desc := "()V" } : Jvm.MethodName) prog_15_method_3_code (2 : Nat) (Option.none : Option Jvm.ClassFile.FieldType)) ∈ lw_all := lw_g (lw_at lw_m1 230 rfl) rfl
theorem q367 : (Jvm.Cond.methodLink "MovedSpan$State" (25 : Nat) ({ cls := "java/lang/System", name := "arraycopy", desc := "(Ljava/lang/Object;ILjava/lang/Object;II)V" } : Jvm.MethodName)) ∈ lw_all := lw_g (lw_at lw_m1 231 rfl) rfl
theorem q370 : (Jvm.Cond.methodLink "MovedSpan$State" (50 : Nat) ({ cls := "MovedSpan$State", name := "sees", desc := "()V" } : Jvm.MethodName)) ∈ lw_all := lw_g (lw_at lw_m1 234 rfl) rfl
theorem q371 : (Jvm.Cond.privateMethod ({ cls := "MovedSpan$State", name := "sees", desc := "()V" } : Jvm.MethodName)) ∈ lw_tbl := lw_at lw_m1 235 rfl
theorem q372 : (Jvm.Cond.instanceMethod ({ cls := "MovedSpan$State", name := "sees", desc := "()V" } : Jvm.MethodName)) ∈ lw_all := lw_g (lw_at lw_m1 236 rfl) rfl
theorem q373 : (Jvm.Cond.code ({ cls := "MovedSpan$State", name := "sees", desc := "()V" } : Jvm.MethodName) prog_15_method_4_code (2 : Nat) (Option.none : Option Jvm.ClassFile.FieldType)) ∈ lw_all := lw_g (lw_at lw_m1 237 rfl) rfl
theorem q375 : (Jvm.Cond.fieldLinkNest "MovedSpan$State" (41 : Nat) "MovedSpan" "its" "LMovedSpan$River;" "MovedSpan") ∈ lw_tbl := lw_at lw_m1 239 rfl
theorem q867 : (Jvm.Cond.instanceMethod ({ cls := "MovedSpan$State", name := "lies", desc := "(I)I" } : Jvm.MethodName)) ∈ lw_all := lw_g (lw_at lw_m4 11 rfl) rfl
theorem q868 : (Jvm.Cond.selects "MovedSpan$State" ({ cls := "MovedSpan$State", name := "lies", desc := "(I)I" } : Jvm.MethodName) ({ cls := "MovedSpan$State", name := "lies", desc := "(I)I" } : Jvm.MethodName)) ∈ lw_all := lw_g (lw_at lw_m4 12 rfl) rfl
theorem q869 : (Jvm.Cond.code ({ cls := "MovedSpan$State", name := "lies", desc := "(I)I" } : Jvm.MethodName) prog_15_method_5_code (2 : Nat) (Option.some Jvm.ClassFile.FieldType.int)) ∈ lw_all := lw_g (lw_at lw_m4 13 rfl) rfl
theorem q886 : (Jvm.Cond.instanceMethod ({ cls := "MovedSpan$State", name := "whyAct", desc := "(JJ)I" } : Jvm.MethodName)) ∈ lw_all := lw_g (lw_at lw_m4 30 rfl) rfl
theorem q887 : (Jvm.Cond.selects "MovedSpan$State" ({ cls := "MovedSpan$State", name := "whyAct", desc := "(JJ)I" } : Jvm.MethodName) ({ cls := "MovedSpan$State", name := "whyAct", desc := "(JJ)I" } : Jvm.MethodName)) ∈ lw_all := lw_g (lw_at lw_m4 31 rfl) rfl
theorem q888 : (Jvm.Cond.code ({ cls := "MovedSpan$State", name := "whyAct", desc := "(JJ)I" } : Jvm.MethodName) prog_15_method_6_code (7 : Nat) (Option.some Jvm.ClassFile.FieldType.int)) ∈ lw_all := lw_g (lw_at lw_m4 32 rfl) rfl
theorem q889 : (Jvm.Cond.methodLinkNest "MovedSpan$State" (65 : Nat) ({ cls := "MovedSpan", name := "in", desc := "(JJJ)Z" } : Jvm.MethodName) "MovedSpan") ∈ lw_tbl := lw_at lw_m4 33 rfl
theorem q890 : (Jvm.Cond.constantLong "MovedSpan$State" (69 : Nat) (6 : Int64)) ∈ lw_all := lw_g (lw_at lw_m4 34 rfl) rfl
theorem q891 : (Jvm.Cond.methodLink "MovedSpan$State" (71 : Nat) ({ cls := "MovedSpan$State", name := "lies", desc := "(I)I" } : Jvm.MethodName)) ∈ lw_all := lw_g (lw_at lw_m4 35 rfl) rfl
theorem q892 : (Jvm.Cond.methodLinkNest "MovedSpan$State" (75 : Nat) ({ cls := "MovedSpan", name := "leads", desc := "(III)I" } : Jvm.MethodName) "MovedSpan") ∈ lw_tbl := lw_at lw_m4 36 rfl
theorem q912 : (Jvm.Cond.methodLinkNest "MovedSpan$State" (79 : Nat) ({ cls := "MovedSpan", name := "isAllowed", desc := "(IIIIII)Z" } : Jvm.MethodName) "MovedSpan") ∈ lw_tbl := lw_at lw_m4 56 rfl
theorem q995 : (Jvm.Cond.instanceMethod ({ cls := "MovedSpan$State", name := "be", desc := "(LMovedSpan$State;)LMovedSpan$State;" } : Jvm.MethodName)) ∈ lw_all := lw_g (lw_at lw_m4 139 rfl) rfl
theorem q996 : (Jvm.Cond.selects "MovedSpan$State" ({ cls := "MovedSpan$State", name := "be", desc := "(LMovedSpan$State;)LMovedSpan$State;" } : Jvm.MethodName) ({ cls := "MovedSpan$State", name := "be", desc := "(LMovedSpan$State;)LMovedSpan$State;" } : Jvm.MethodName)) ∈ lw_all := lw_g (lw_at lw_m4 140 rfl) rfl
theorem q997 : (Jvm.Cond.code ({ cls := "MovedSpan$State", name := "be", desc := "(LMovedSpan$State;)LMovedSpan$State;" } : Jvm.MethodName) prog_15_method_2_code (2 : Nat) (Option.some (Jvm.ClassFile.FieldType.object "MovedSpan$State"))) ∈ lw_all := lw_g (lw_at lw_m4 141 rfl) rfl
theorem q1016 : (Jvm.Cond.instanceMethod ({ cls := "MovedSpan$State", name := "goes", desc := "()I" } : Jvm.MethodName)) ∈ lw_all := lw_g (lw_at lw_m4 160 rfl) rfl
theorem q1017 : (Jvm.Cond.selects "MovedSpan$State" ({ cls := "MovedSpan$State", name := "goes", desc := "()I" } : Jvm.MethodName) ({ cls := "MovedSpan$State", name := "goes", desc := "()I" } : Jvm.MethodName)) ∈ lw_all := lw_g (lw_at lw_m4 161 rfl) rfl
theorem q1018 : (Jvm.Cond.code ({ cls := "MovedSpan$State", name := "goes", desc := "()I" } : Jvm.MethodName) prog_15_method_7_code (3 : Nat) (Option.some Jvm.ClassFile.FieldType.int)) ∈ lw_all := lw_g (lw_at lw_m4 162 rfl) rfl
theorem q1019 : (Jvm.Cond.methodLink "MovedSpan$State" (83 : Nat) ({ cls := "java/lang/Integer", name := "bitCount", desc := "(I)I" } : Jvm.MethodName)) ∈ lw_all := lw_g (lw_at lw_m4 163 rfl) rfl
theorem q1025 : (Jvm.Cond.methodLink "MovedSpan$State" (88 : Nat) ({ cls := "MovedSpan$State", name := "whyAct", desc := "(JJ)I" } : Jvm.MethodName)) ∈ lw_all := lw_g (lw_at lw_m4 169 rfl) rfl
theorem q1026 : (Jvm.Cond.methodLink "MovedSpan$State" (92 : Nat) ({ cls := "java/lang/Math", name := "max", desc := "(II)I" } : Jvm.MethodName)) ∈ lw_all := lw_g (lw_at lw_m4 170 rfl) rfl
theorem q1060 : (Jvm.Cond.instanceMethod ({ cls := "MovedSpan$State", name := "why", desc := "(J)I" } : Jvm.MethodName)) ∈ lw_all := lw_g (lw_at lw_m4 204 rfl) rfl
theorem q1061 : (Jvm.Cond.selects "MovedSpan$State" ({ cls := "MovedSpan$State", name := "why", desc := "(J)I" } : Jvm.MethodName) ({ cls := "MovedSpan$State", name := "why", desc := "(J)I" } : Jvm.MethodName)) ∈ lw_all := lw_g (lw_at lw_m4 205 rfl) rfl
theorem q1062 : (Jvm.Cond.code ({ cls := "MovedSpan$State", name := "why", desc := "(J)I" } : Jvm.MethodName) prog_15_method_8_code (3 : Nat) (Option.some Jvm.ClassFile.FieldType.int)) ∈ lw_all := lw_g (lw_at lw_m4 206 rfl) rfl
theorem q1063 : (Jvm.Cond.constantLong "MovedSpan$State" (98 : Nat) (-1 : Int64)) ∈ lw_all := lw_g (lw_at lw_m4 207 rfl) rfl
theorem q1064 : (Jvm.Cond.constantLong "MovedSpan$State" (100 : Nat) (200 : Int64)) ∈ lw_all := lw_g (lw_at lw_m4 208 rfl) rfl
theorem q1065 : (Jvm.Cond.constantLong "MovedSpan$State" (102 : Nat) (209 : Int64)) ∈ lw_all := lw_g (lw_at lw_m4 209 rfl) rfl
theorem q1066 : (Jvm.Cond.constantLong "MovedSpan$State" (104 : Nat) (49 : Int64)) ∈ lw_all := lw_g (lw_at lw_m4 210 rfl) rfl
theorem q1067 : (Jvm.Cond.constantLong "MovedSpan$State" (106 : Nat) (10 : Int64)) ∈ lw_all := lw_g (lw_at lw_m4 211 rfl) rfl
theorem q1068 : (Jvm.Cond.constantLong "MovedSpan$State" (108 : Nat) (100 : Int64)) ∈ lw_all := lw_g (lw_at lw_m4 212 rfl) rfl
theorem q1069 : (Jvm.Cond.constantLong "MovedSpan$State" (110 : Nat) (159 : Int64)) ∈ lw_all := lw_g (lw_at lw_m4 213 rfl) rfl
theorem q1070 : (Jvm.Cond.constantLong "MovedSpan$State" (115 : Nat) (9 : Int64)) ∈ lw_all := lw_g (lw_at lw_m4 214 rfl) rfl
theorem q1072 : (Jvm.Cond.instanceMethod ({ cls := "MovedSpan$State", name := "does", desc := "(I)V" } : Jvm.MethodName)) ∈ lw_all := lw_g (lw_at lw_m4 216 rfl) rfl
theorem q1073 : (Jvm.Cond.selects "MovedSpan$State" ({ cls := "MovedSpan$State", name := "does", desc := "(I)V" } : Jvm.MethodName) ({ cls := "MovedSpan$State", name := "does", desc := "(I)V" } : Jvm.MethodName)) ∈ lw_all := lw_g (lw_at lw_m4 217 rfl) rfl
theorem q1074 : (Jvm.Cond.code ({ cls := "MovedSpan$State", name := "does", desc := "(I)V" } : Jvm.MethodName) prog_15_method_9_code (2 : Nat) (Option.none : Option Jvm.ClassFile.FieldType)) ∈ lw_all := lw_g (lw_at lw_m4 218 rfl) rfl
theorem q1075 : (Jvm.Cond.methodLink "MovedSpan$State" (117 : Nat) ({ cls := "MovedSpan$State", name := "goes", desc := "()I" } : Jvm.MethodName)) ∈ lw_all := lw_g (lw_at lw_m4 219 rfl) rfl
theorem in_X7 : ∀ w ∈ wsX70, w ∈ lw_all := lw_in wsX70 [332, 334, 336, 338, 340, 342, 344] (by decide +kernel) (by decide +kernel)
abbrev cX8_init : ByteArray := prog_10_method_1_code
abbrev cX8_many : ByteArray := prog_10_method_3_code
abbrev cX8_number : ByteArray := prog_10_method_4_code
abbrev cX8_begins : ByteArray := prog_10_method_2_code
abbrev cX8_puts : ByteArray := prog_10_method_5_code
def RX8 : String := "MovedSpan$Numbers"
def TX8 : u_T := fun k => match k with
  | _ => ("MovedSpan$Numbers", "held", "Ljava/lang/Object;", false)
def tyX8 : Nat → FieldType := fun k => match k with
  | _ => .object "java/lang/Object"
abbrev wsX80 : List Cond := u_ws RX8 TX8 1
theorem nmX8 : ∀ a, a < 1 → ∀ b, b < 1 → a ≠ b → (TX8 a).2.1 ≠ (TX8 b).2.1 := by decide +kernel
theorem tyX8_ok : ∀ k, k < 1 → parseFieldDescriptor (TX8 k).2.2.1 = some (tyX8 k) := by decide +kernel
def yX8_init : MethodName := ⟨RX8, "<init>", "()V"⟩
def yX8_many : MethodName := ⟨RX8, "many", "()I"⟩
def yX8_number : MethodName := ⟨RX8, "number", "(I)J"⟩
def yX8_begins : MethodName := ⟨RX8, "begins", "(II)Z"⟩
def yX8_puts : MethodName := ⟨RX8, "puts", "(IJ)V"⟩
theorem q145 : (Jvm.Cond.initialized "MovedSpan$Numbers") ∈ lw_all := lw_g (lw_at lw_m1 9 rfl) rfl
theorem q350 : (Jvm.Cond.instantiable "MovedSpan$Numbers" (1 : Nat)) ∈ lw_all := lw_g (lw_at lw_m1 214 rfl) rfl
theorem q352 : (Jvm.Cond.instanceMethod ({ cls := "MovedSpan$Numbers", name := "<init>", desc := "()V" } : Jvm.MethodName)) ∈ lw_all := lw_g (lw_at lw_m1 216 rfl) rfl
theorem q353 : (Jvm.Cond.code ({ cls := "MovedSpan$Numbers", name := "<init>", desc := "()V" } : Jvm.MethodName) prog_10_method_1_code (1 : Nat) (Option.none : Option Jvm.ClassFile.FieldType)) ∈ lw_all := lw_g (lw_at lw_m1 217 rfl) rfl
theorem q354 : (Jvm.Cond.methodLink "MovedSpan$Numbers" (1 : Nat) ({ cls := "java/lang/Object", name := "<init>", desc := "()V" } : Jvm.MethodName)) ∈ lw_all := lw_g (lw_at lw_m1 218 rfl) rfl
theorem q355 : (Jvm.Cond.fieldLink "MovedSpan$Numbers" (7 : Nat) "MovedSpan$Numbers" "held" "Ljava/lang/Object;") ∈ lw_all := lw_g (lw_at lw_m1 219 rfl) rfl
theorem q357 : (Jvm.Cond.lays "MovedSpan$Numbers" "MovedSpan$Numbers" "held" "Ljava/lang/Object;") ∈ lw_all := lw_g (lw_at lw_m1 221 rfl) rfl
theorem q358 : (Jvm.Cond.soleField "MovedSpan$Numbers" "held") ∈ lw_all := lw_g (lw_at lw_m1 222 rfl) rfl
theorem q359 : (Jvm.Cond.superclass "MovedSpan$Numbers" "java/lang/Object") ∈ lw_all := lw_g (lw_at lw_m1 223 rfl) rfl
theorem q1048 : (Jvm.Cond.instanceMethod ({ cls := "MovedSpan$Numbers", name := "many", desc := "()I" } : Jvm.MethodName)) ∈ lw_all := lw_g (lw_at lw_m4 192 rfl) rfl
theorem q1049 : (Jvm.Cond.selects "MovedSpan$Numbers" ({ cls := "MovedSpan$Numbers", name := "many", desc := "()I" } : Jvm.MethodName) ({ cls := "MovedSpan$Numbers", name := "many", desc := "()I" } : Jvm.MethodName)) ∈ lw_all := lw_g (lw_at lw_m4 193 rfl) rfl
theorem q1050 : (Jvm.Cond.code ({ cls := "MovedSpan$Numbers", name := "many", desc := "()I" } : Jvm.MethodName) prog_10_method_3_code (1 : Nat) (Option.some Jvm.ClassFile.FieldType.int)) ∈ lw_all := lw_g (lw_at lw_m4 194 rfl) rfl
theorem q1051 : (Jvm.Cond.classLink "MovedSpan$Numbers" (15 : Nat) "[B") ∈ lw_all := lw_g (lw_at lw_m4 195 rfl) rfl
theorem q1052 : (Jvm.Cond.classLink "MovedSpan$Numbers" (17 : Nat) "[S") ∈ lw_all := lw_g (lw_at lw_m4 196 rfl) rfl
theorem q1053 : (Jvm.Cond.classLink "MovedSpan$Numbers" (19 : Nat) "[I") ∈ lw_all := lw_g (lw_at lw_m4 197 rfl) rfl
theorem q1054 : (Jvm.Cond.classLink "MovedSpan$Numbers" (21 : Nat) "[J") ∈ lw_all := lw_g (lw_at lw_m4 198 rfl) rfl
theorem q1056 : (Jvm.Cond.instanceMethod ({ cls := "MovedSpan$Numbers", name := "number", desc := "(I)J" } : Jvm.MethodName)) ∈ lw_all := lw_g (lw_at lw_m4 200 rfl) rfl
theorem q1057 : (Jvm.Cond.selects "MovedSpan$Numbers" ({ cls := "MovedSpan$Numbers", name := "number", desc := "(I)J" } : Jvm.MethodName) ({ cls := "MovedSpan$Numbers", name := "number", desc := "(I)J" } : Jvm.MethodName)) ∈ lw_all := lw_g (lw_at lw_m4 201 rfl) rfl
theorem q1058 : (Jvm.Cond.code ({ cls := "MovedSpan$Numbers", name := "number", desc := "(I)J" } : Jvm.MethodName) prog_10_method_4_code (2 : Nat) (Option.some Jvm.ClassFile.FieldType.long)) ∈ lw_all := lw_g (lw_at lw_m4 202 rfl) rfl
theorem q1313 : (Jvm.Cond.instanceMethod ({ cls := "MovedSpan$Numbers", name := "begins", desc := "(II)Z" } : Jvm.MethodName)) ∈ lw_all := lw_g (lw_at lw_m5 217 rfl) rfl
theorem q1314 : (Jvm.Cond.selects "MovedSpan$Numbers" ({ cls := "MovedSpan$Numbers", name := "begins", desc := "(II)Z" } : Jvm.MethodName) ({ cls := "MovedSpan$Numbers", name := "begins", desc := "(II)Z" } : Jvm.MethodName)) ∈ lw_all := lw_g (lw_at lw_m5 218 rfl) rfl
theorem q1315 : (Jvm.Cond.codeWith ({ cls := "MovedSpan$Numbers", name := "begins", desc := "(II)Z" } : Jvm.MethodName) prog_10_method_2_code (4 : Nat) (Option.some Jvm.ClassFile.FieldType.boolean) [((0 : Nat), (66 : Nat), (67 : Nat), (13 : Nat))]) ∈ lw_all := lw_g (lw_at lw_m5 219 rfl) rfl
theorem q1316 : (Jvm.Cond.classLink "MovedSpan$Numbers" (13 : Nat) "java/lang/NegativeArraySizeException") ∈ lw_all := lw_g (lw_at lw_m5 220 rfl) rfl
theorem q1449 : (Jvm.Cond.instanceMethod ({ cls := "MovedSpan$Numbers", name := "puts", desc := "(IJ)V" } : Jvm.MethodName)) ∈ lw_all := lw_g (lw_at lw_m6 113 rfl) rfl
theorem q1450 : (Jvm.Cond.selects "MovedSpan$Numbers" ({ cls := "MovedSpan$Numbers", name := "puts", desc := "(IJ)V" } : Jvm.MethodName) ({ cls := "MovedSpan$Numbers", name := "puts", desc := "(IJ)V" } : Jvm.MethodName)) ∈ lw_all := lw_g (lw_at lw_m6 114 rfl) rfl
theorem q1451 : (Jvm.Cond.code ({ cls := "MovedSpan$Numbers", name := "puts", desc := "(IJ)V" } : Jvm.MethodName) prog_10_method_5_code (4 : Nat) (Option.none : Option Jvm.ClassFile.FieldType)) ∈ lw_all := lw_g (lw_at lw_m6 115 rfl) rfl
theorem in_X8 : ∀ w ∈ wsX80, w ∈ lw_all := lw_in wsX80 [357] (by decide +kernel) (by decide +kernel)
abbrev cX9_init : ByteArray := prog_20_method_3_code
abbrev cX9_plain : ByteArray := prog_20_method_4_code
abbrev cX9_feed : ByteArray := prog_20_method_5_code
abbrev cX9_river : ByteArray := prog_20_method_32_code
abbrev cX9_within : ByteArray := prog_20_method_2_code
abbrev cX9_next : ByteArray := prog_20_method_10_code
abbrev cX9_see : ByteArray := prog_20_method_6_code
abbrev cX9_isSmall : ByteArray := prog_20_method_7_code
abbrev cX9_keyAt : ByteArray := prog_20_method_9_code
abbrev cX9_isDigit : ByteArray := prog_20_method_8_code
abbrev cX9_eats : ByteArray := prog_20_method_13_code
abbrev cX9_is : ByteArray := prog_20_method_12_code
abbrev cX9_fails : ByteArray := prog_20_method_11_code
abbrev cX9_takes : ByteArray := prog_20_method_14_code
abbrev cX9_ends : ByteArray := prog_20_method_31_code
abbrev cX9_readLine : ByteArray := prog_20_method_30_code
abbrev cX9_readSpan : ByteArray := prog_20_method_25_code
abbrev cX9_readPerson : ByteArray := prog_20_method_28_code
abbrev cX9_readSpot : ByteArray := prog_20_method_26_code
abbrev cX9_readFlag : ByteArray := prog_20_method_27_code
abbrev cX9_readLaw : ByteArray := prog_20_method_29_code
abbrev cX9_readTruth : ByteArray := prog_20_method_24_code
abbrev cX9_readBoth : ByteArray := prog_20_method_23_code
abbrev cX9_readUnit : ByteArray := prog_20_method_22_code
abbrev cX9_goesIn : ByteArray := prog_20_method_18_code
abbrev cX9_codes : ByteArray := prog_20_method_17_code
abbrev cX9_readSum : ByteArray := prog_20_method_21_code
abbrev cX9_readTerm : ByteArray := prog_20_method_20_code
abbrev cX9_readAtom : ByteArray := prog_20_method_19_code
abbrev cX9_wordOf : ByteArray := prog_20_method_16_code
abbrev cX9_doesErrands : ByteArray := prog_20_method_50_code
abbrev cX9_isIn : ByteArray := prog_20_method_15_code
abbrev cX9_fault : ByteArray := prog_20_method_33_code
abbrev cX9_span : ByteArray := prog_20_method_44_code
abbrev cX9_spanIn : ByteArray := prog_20_method_37_code
abbrev cX9_person : ByteArray := prog_20_method_45_code
abbrev cX9_isPerson : ByteArray := prog_20_method_34_code
abbrev cX9_why : ByteArray := prog_20_method_46_code
abbrev cX9_whyTold : ByteArray := prog_20_method_43_code
abbrev cX9_fogIn : ByteArray := prog_20_method_38_code
abbrev cX9_whyAct : ByteArray := prog_20_method_42_code
abbrev cX9_leads : ByteArray := prog_20_method_41_code
abbrev cX9_lets : ByteArray := prog_20_method_40_code
abbrev cX9_between : ByteArray := prog_20_method_39_code
abbrev cX9_act : ByteArray := prog_20_method_52_code
abbrev cX9_keeps : ByteArray := prog_20_method_47_code
abbrev cX9_notes : ByteArray := prog_20_method_49_code
abbrev cX9_tell : ByteArray := prog_20_method_53_code
abbrev cX9_fog : ByteArray := prog_20_method_54_code
abbrev cX9_hours : ByteArray := prog_20_method_55_code
abbrev cX9_goesHour : ByteArray := prog_20_method_51_code
abbrev cX9_undo : ByteArray := prog_20_method_56_code
abbrev cX9_judge : ByteArray := prog_20_method_61_code
abbrev cX9_noTray : ByteArray := prog_20_method_60_code
abbrev cX9_tells : ByteArray := prog_20_method_59_code
abbrev cX9_whyNot : ByteArray := prog_20_method_57_code
abbrev cX9_does : ByteArray := prog_20_method_58_code
abbrev cX9_isAgain : ByteArray := prog_20_method_48_code
abbrev cX9_perform : ByteArray := prog_20_method_62_code
abbrev cX9_year : ByteArray := prog_20_method_65_code
abbrev cX9_drawn : ByteArray := prog_20_method_64_code
abbrev cX9_draw : ByteArray := prog_20_method_63_code
abbrev cX9_soonest : ByteArray := prog_20_method_70_code
abbrev cX9_isSpot : ByteArray := prog_20_method_35_code
abbrev cX9_soonestOf : ByteArray := prog_20_method_69_code
abbrev cX9_laysLets : ByteArray := prog_20_method_66_code
abbrev cX9_hoursTo : ByteArray := prog_20_method_68_code
abbrev cX9_goesOn : ByteArray := prog_20_method_67_code
abbrev cX9_way : ByteArray := prog_20_method_72_code
abbrev cX9_laysWay : ByteArray := prog_20_method_71_code
abbrev cX9_ways : ByteArray := prog_20_method_73_code
abbrev cX9_reach : ByteArray := prog_20_method_75_code
abbrev cX9_reachOf : ByteArray := prog_20_method_74_code
abbrev cX9_meet : ByteArray := prog_20_method_77_code
abbrev cX9_meetIn : ByteArray := prog_20_method_76_code
abbrev cX9_meetAt : ByteArray := prog_20_method_78_code
abbrev cX9_inTime : ByteArray := prog_20_method_82_code
abbrev cX9_inTimeSet : ByteArray := prog_20_method_81_code
abbrev cX9_isErrand : ByteArray := prog_20_method_79_code
abbrev cX9_isInTime : ByteArray := prog_20_method_80_code
abbrev cX9_spare : ByteArray := prog_20_method_83_code
abbrev cX9_needs : ByteArray := prog_20_method_84_code
abbrev cX9_moves : ByteArray := prog_20_method_93_code
abbrev cX9_movesNow : ByteArray := prog_20_method_85_code
abbrev cX9_best : ByteArray := prog_20_method_94_code
abbrev cX9_laysWeeks : ByteArray := prog_20_method_92_code
abbrev cX9_keepsLets : ByteArray := prog_20_method_87_code
abbrev cX9_goesWeeks : ByteArray := prog_20_method_90_code
abbrev cX9_laysWeek : ByteArray := prog_20_method_91_code
abbrev cX9_inTimeMany : ByteArray := prog_20_method_89_code
abbrev cX9_takesLets : ByteArray := prog_20_method_88_code
abbrev cX9_errandsMany : ByteArray := prog_20_method_86_code
abbrev cX9_weeks : ByteArray := prog_20_method_95_code
abbrev cX9_change : ByteArray := prog_20_method_96_code
abbrev cX9_shift : ByteArray := prog_20_method_97_code
abbrev cX9_fits : ByteArray := prog_20_method_101_code
abbrev cX9_noSeen : ByteArray := prog_20_method_98_code
abbrev cX9_fitting : ByteArray := prog_20_method_100_code
abbrev cX9_oddIn : ByteArray := prog_20_method_99_code
abbrev cX9_surest : ByteArray := prog_20_method_102_code
abbrev cX9_bitsOf : ByteArray := prog_20_method_36_code
abbrev cX9_odd : ByteArray := prog_20_method_103_code
abbrev cX9_chance : ByteArray := prog_20_method_108_code
abbrev cX9_chanceOf : ByteArray := prog_20_method_105_code
abbrev cX9_bestOn : ByteArray := prog_20_method_104_code
abbrev cX9_tens : ByteArray := prog_20_method_106_code
abbrev cX9_common : ByteArray := prog_20_method_107_code
abbrev cX9_likely : ByteArray := prog_20_method_109_code
abbrev cX9_numbers : ByteArray := prog_20_method_111_code
abbrev cX9_write : ByteArray := prog_20_method_112_code
abbrev cX9_cut : ByteArray := prog_20_method_110_code
abbrev cX9_lists : ByteArray := prog_20_method_113_code
abbrev cX9_image : ByteArray := prog_20_method_114_code
abbrev cX9_restore : ByteArray := prog_20_method_115_code
abbrev cX9_count : ByteArray := prog_20_method_118_code
abbrev cX9_errandsSet : ByteArray := prog_20_method_116_code
abbrev cX9_onSpan : ByteArray := prog_20_method_117_code
def RX9 : String := "MovedSpanModel"
def TX9 : u_T := fun k => match k with
  | 0 => ("MovedSpanModel", "thrown", "I", false)
  | 1 => ("MovedSpanModel", "all", "[I", true)
  | 2 => ("MovedSpanModel", "hasImage", "[Z", true)
  | 3 => ("MovedSpanModel", "tape", "[I", true)
  | 4 => ("MovedSpanModel", "fresh", "[I", true)
  | 5 => ("MovedSpanModel", "taped", "I", false)
  | 6 => ("MovedSpanModel", "at", "I", false)
  | 7 => ("MovedSpanModel", "behind", "I", false)
  | 8 => ("MovedSpanModel", "size", "I", false)
  | 9 => ("MovedSpanModel", "kind", "I", false)
  | 10 => ("MovedSpanModel", "number", "I", false)
  | 11 => ("MovedSpanModel", "wrong", "I", false)
  | 12 => ("MovedSpanModel", "wrongAt", "I", false)
  | 13 => ("MovedSpanModel", "faultKind", "I", false)
  | 14 => ("MovedSpanModel", "faultPlace", "I", false)
  | 15 => ("MovedSpanModel", "reading", "I", false)
  | 16 => ("MovedSpanModel", "reckoned", "[I", true)
  | 17 => ("MovedSpanModel", "words", "[I", true)
  | 18 => ("MovedSpanModel", "was", "[I", true)
  | 19 => ("MovedSpanModel", "toldWhy", "I", false)
  | 20 => ("MovedSpanModel", "x", "I", false)
  | 21 => ("MovedSpanModel", "ups", "[I", true)
  | 22 => ("MovedSpanModel", "downs", "[I", true)
  | 23 => ("MovedSpanModel", "served", "[I", true)
  | 24 => ("MovedSpanModel", "goods", "[I", true)
  | 25 => ("MovedSpanModel", "acts", "[I", true)
  | 26 => ("MovedSpanModel", "ways", "[J", true)
  | 27 => ("MovedSpanModel", "waysThen", "[J", true)
  | 28 => ("MovedSpanModel", "weekWas", "[I", true)
  | 29 => ("MovedSpanModel", "bestWeek", "[I", true)
  | 30 => ("MovedSpanModel", "upsOf", "[I", true)
  | 31 => ("MovedSpanModel", "downsOf", "[I", true)
  | 32 => ("MovedSpanModel", "servedOf", "[I", true)
  | 33 => ("MovedSpanModel", "bestMany", "I", false)
  | 34 => ("MovedSpanModel", "bestMoves", "I", false)
  | 35 => ("MovedSpanModel", "fullWeeks", "I", false)
  | 36 => ("MovedSpanModel", "chances", "[J", true)
  | 37 => ("MovedSpanModel", "chancesThen", "[J", true)
  | 38 => ("MovedSpanModel", "rowSort", "[I", true)
  | 39 => ("MovedSpanModel", "rowMany", "[I", true)
  | _ => ("MovedSpanModel", "numbers", "[J", true)
def tyX9 : Nat → FieldType := fun k => match k with
  | 0 => .int
  | 1 => .array .int
  | 2 => .array .boolean
  | 3 => .array .int
  | 4 => .array .int
  | 5 => .int
  | 6 => .int
  | 7 => .int
  | 8 => .int
  | 9 => .int
  | 10 => .int
  | 11 => .int
  | 12 => .int
  | 13 => .int
  | 14 => .int
  | 15 => .int
  | 16 => .array .int
  | 17 => .array .int
  | 18 => .array .int
  | 19 => .int
  | 20 => .int
  | 21 => .array .int
  | 22 => .array .int
  | 23 => .array .int
  | 24 => .array .int
  | 25 => .array .int
  | 26 => .array .long
  | 27 => .array .long
  | 28 => .array .int
  | 29 => .array .int
  | 30 => .array .int
  | 31 => .array .int
  | 32 => .array .int
  | 33 => .int
  | 34 => .int
  | 35 => .int
  | 36 => .array .long
  | 37 => .array .long
  | 38 => .array .int
  | 39 => .array .int
  | _ => .array .long
abbrev wsX90 : List Cond := u_ws RX9 TX9 41
theorem nmX9 : ∀ a, a < 41 → ∀ b, b < 41 → a ≠ b → (TX9 a).2.1 ≠ (TX9 b).2.1 := by decide +kernel
theorem tyX9_ok : ∀ k, k < 41 → parseFieldDescriptor (TX9 k).2.2.1 = some (tyX9 k) := by decide +kernel
def yX9_init : MethodName := ⟨RX9, "<init>", "()V"⟩
def yX9_plain : MethodName := ⟨RX9, "plain", "([I)V"⟩
def yX9_feed : MethodName := ⟨RX9, "feed", "(IIIII)I"⟩
def yX9_river : MethodName := ⟨RX9, "river", "(I)I"⟩
def yX9_within : MethodName := ⟨RX9, "within", "(JJJ)Z"⟩
def yX9_next : MethodName := ⟨RX9, "next", "()V"⟩
def yX9_see : MethodName := ⟨RX9, "see", "(I)I"⟩
def yX9_isSmall : MethodName := ⟨RX9, "isSmall", "(I)Z"⟩
def yX9_keyAt : MethodName := ⟨RX9, "keyAt", "()I"⟩
def yX9_isDigit : MethodName := ⟨RX9, "isDigit", "(I)Z"⟩
def yX9_eats : MethodName := ⟨RX9, "eats", "(I)Z"⟩
def yX9_is : MethodName := ⟨RX9, "is", "(I)Z"⟩
def yX9_fails : MethodName := ⟨RX9, "fails", "(I)V"⟩
def yX9_takes : MethodName := ⟨RX9, "takes", "(II)I"⟩
def yX9_ends : MethodName := ⟨RX9, "ends", "()V"⟩
def yX9_readLine : MethodName := ⟨RX9, "readLine", "()V"⟩
def yX9_readSpan : MethodName := ⟨RX9, "readSpan", "()V"⟩
def yX9_readPerson : MethodName := ⟨RX9, "readPerson", "()V"⟩
def yX9_readSpot : MethodName := ⟨RX9, "readSpot", "()I"⟩
def yX9_readFlag : MethodName := ⟨RX9, "readFlag", "(I)Z"⟩
def yX9_readLaw : MethodName := ⟨RX9, "readLaw", "(I)V"⟩
def yX9_readTruth : MethodName := ⟨RX9, "readTruth", "(I)V"⟩
def yX9_readBoth : MethodName := ⟨RX9, "readBoth", "(I)V"⟩
def yX9_readUnit : MethodName := ⟨RX9, "readUnit", "(I)V"⟩
def yX9_goesIn : MethodName := ⟨RX9, "goesIn", "(I)Z"⟩
def yX9_codes : MethodName := ⟨RX9, "codes", "(I)V"⟩
def yX9_readSum : MethodName := ⟨RX9, "readSum", "(I)V"⟩
def yX9_readTerm : MethodName := ⟨RX9, "readTerm", "(I)V"⟩
def yX9_readAtom : MethodName := ⟨RX9, "readAtom", "(I)V"⟩
def yX9_wordOf : MethodName := ⟨RX9, "wordOf", "(I)I"⟩
def yX9_doesErrands : MethodName := ⟨RX9, "doesErrands", "()I"⟩
def yX9_isIn : MethodName := ⟨RX9, "isIn", "(JI)Z"⟩
def yX9_fault : MethodName := ⟨RX9, "fault", "(I)I"⟩
def yX9_span : MethodName := ⟨RX9, "span", "(I)I"⟩
def yX9_spanIn : MethodName := ⟨RX9, "spanIn", "(I)I"⟩
def yX9_person : MethodName := ⟨RX9, "person", "(II)I"⟩
def yX9_isPerson : MethodName := ⟨RX9, "isPerson", "(J)Z"⟩
def yX9_why : MethodName := ⟨RX9, "why", "(II)I"⟩
def yX9_whyTold : MethodName := ⟨RX9, "whyTold", "(JJ)I"⟩
def yX9_fogIn : MethodName := ⟨RX9, "fogIn", "(I)I"⟩
def yX9_whyAct : MethodName := ⟨RX9, "whyAct", "(IIIII)I"⟩
def yX9_leads : MethodName := ⟨RX9, "leads", "(III)I"⟩
def yX9_lets : MethodName := ⟨RX9, "lets", "(IIIIII)Z"⟩
def yX9_between : MethodName := ⟨RX9, "between", "(III)I"⟩
def yX9_act : MethodName := ⟨RX9, "act", "(II)I"⟩
def yX9_keeps : MethodName := ⟨RX9, "keeps", "()V"⟩
def yX9_notes : MethodName := ⟨RX9, "notes", "()V"⟩
def yX9_tell : MethodName := ⟨RX9, "tell", "(II)I"⟩
def yX9_fog : MethodName := ⟨RX9, "fog", "(I)I"⟩
def yX9_hours : MethodName := ⟨RX9, "hours", "(I)I"⟩
def yX9_goesHour : MethodName := ⟨RX9, "goesHour", "()I"⟩
def yX9_undo : MethodName := ⟨RX9, "undo", "(I)I"⟩
def yX9_judge : MethodName := ⟨RX9, "judge", "(II)I"⟩
def yX9_noTray : MethodName := ⟨RX9, "noTray", "(I)I"⟩
def yX9_tells : MethodName := ⟨RX9, "tells", "(I)I"⟩
def yX9_whyNot : MethodName := ⟨RX9, "whyNot", "(J)I"⟩
def yX9_does : MethodName := ⟨RX9, "does", "(I)V"⟩
def yX9_isAgain : MethodName := ⟨RX9, "isAgain", "()V"⟩
def yX9_perform : MethodName := ⟨RX9, "perform", "(I)I"⟩
def yX9_year : MethodName := ⟨RX9, "year", "(II)I"⟩
def yX9_drawn : MethodName := ⟨RX9, "drawn", "()I"⟩
def yX9_draw : MethodName := ⟨RX9, "draw", "(I)I"⟩
def yX9_soonest : MethodName := ⟨RX9, "soonest", "(II)I"⟩
def yX9_isSpot : MethodName := ⟨RX9, "isSpot", "(J)Z"⟩
def yX9_soonestOf : MethodName := ⟨RX9, "soonestOf", "(II)I"⟩
def yX9_laysLets : MethodName := ⟨RX9, "laysLets", "(I)V"⟩
def yX9_hoursTo : MethodName := ⟨RX9, "hoursTo", "(III)I"⟩
def yX9_goesOn : MethodName := ⟨RX9, "goesOn", "(III)I"⟩
def yX9_way : MethodName := ⟨RX9, "way", "(III)I"⟩
def yX9_laysWay : MethodName := ⟨RX9, "laysWay", "(II)I"⟩
def yX9_ways : MethodName := ⟨RX9, "ways", "(III)J"⟩
def yX9_reach : MethodName := ⟨RX9, "reach", "(II)I"⟩
def yX9_reachOf : MethodName := ⟨RX9, "reachOf", "(II)I"⟩
def yX9_meet : MethodName := ⟨RX9, "meet", "(II)I"⟩
def yX9_meetIn : MethodName := ⟨RX9, "meetIn", "(II)I"⟩
def yX9_meetAt : MethodName := ⟨RX9, "meetAt", "(II)I"⟩
def yX9_inTime : MethodName := ⟨RX9, "inTime", "()I"⟩
def yX9_inTimeSet : MethodName := ⟨RX9, "inTimeSet", "()I"⟩
def yX9_isErrand : MethodName := ⟨RX9, "isErrand", "(I)Z"⟩
def yX9_isInTime : MethodName := ⟨RX9, "isInTime", "(II)Z"⟩
def yX9_spare : MethodName := ⟨RX9, "spare", "(I)I"⟩
def yX9_needs : MethodName := ⟨RX9, "needs", "(I)I"⟩
def yX9_moves : MethodName := ⟨RX9, "moves", "()I"⟩
def yX9_movesNow : MethodName := ⟨RX9, "movesNow", "()I"⟩
def yX9_best : MethodName := ⟨RX9, "best", "(I)I"⟩
def yX9_laysWeeks : MethodName := ⟨RX9, "laysWeeks", "()V"⟩
def yX9_keepsLets : MethodName := ⟨RX9, "keepsLets", "()V"⟩
def yX9_goesWeeks : MethodName := ⟨RX9, "goesWeeks", "(I)V"⟩
def yX9_laysWeek : MethodName := ⟨RX9, "laysWeek", "()V"⟩
def yX9_inTimeMany : MethodName := ⟨RX9, "inTimeMany", "()I"⟩
def yX9_takesLets : MethodName := ⟨RX9, "takesLets", "(I)V"⟩
def yX9_errandsMany : MethodName := ⟨RX9, "errandsMany", "()I"⟩
def yX9_weeks : MethodName := ⟨RX9, "weeks", "()I"⟩
def yX9_change : MethodName := ⟨RX9, "change", "()I"⟩
def yX9_shift : MethodName := ⟨RX9, "shift", "()I"⟩
def yX9_fits : MethodName := ⟨RX9, "fits", "(III)I"⟩
def yX9_noSeen : MethodName := ⟨RX9, "noSeen", "(II)I"⟩
def yX9_fitting : MethodName := ⟨RX9, "fitting", "(III)I"⟩
def yX9_oddIn : MethodName := ⟨RX9, "oddIn", "(I)I"⟩
def yX9_surest : MethodName := ⟨RX9, "surest", "(II)I"⟩
def yX9_bitsOf : MethodName := ⟨RX9, "bitsOf", "(I)I"⟩
def yX9_odd : MethodName := ⟨RX9, "odd", "(II)I"⟩
def yX9_chance : MethodName := ⟨RX9, "chance", "(IIII)J"⟩
def yX9_chanceOf : MethodName := ⟨RX9, "chanceOf", "(III)J"⟩
def yX9_bestOn : MethodName := ⟨RX9, "bestOn", "(III)J"⟩
def yX9_tens : MethodName := ⟨RX9, "tens", "(I)J"⟩
def yX9_common : MethodName := ⟨RX9, "common", "(JJ)J"⟩
def yX9_likely : MethodName := ⟨RX9, "likely", "(III)I"⟩
def yX9_numbers : MethodName := ⟨RX9, "numbers", "(III)I"⟩
def yX9_write : MethodName := ⟨RX9, "write", "(IIJ)J"⟩
def yX9_cut : MethodName := ⟨RX9, "cut", "(JI)J"⟩
def yX9_lists : MethodName := ⟨RX9, "lists", "(III)I"⟩
def yX9_image : MethodName := ⟨RX9, "image", "(I)I"⟩
def yX9_restore : MethodName := ⟨RX9, "restore", "(I)I"⟩
def yX9_count : MethodName := ⟨RX9, "count", "(I)I"⟩
def yX9_errandsSet : MethodName := ⟨RX9, "errandsSet", "()I"⟩
def yX9_onSpan : MethodName := ⟨RX9, "onSpan", "()I"⟩
theorem q147 : (Jvm.Cond.initialized "MovedSpanModel") ∈ lw_all := lw_g (lw_at lw_m1 11 rfl) rfl
theorem q1475 : (Jvm.Cond.instantiable "MovedSpanModel" (41 : Nat)) ∈ lw_all := lw_g (lw_at lw_m6 139 rfl) rfl
theorem q1477 : (Jvm.Cond.instanceMethod ({ cls := "MovedSpanModel", name := "<init>", desc := "()V" } : Jvm.MethodName)) ∈ lw_all := lw_g (lw_at lw_m6 141 rfl) rfl
theorem q1478 : (Jvm.Cond.code ({ cls := "MovedSpanModel", name := "<init>", desc := "()V" } : Jvm.MethodName) prog_20_method_3_code (1 : Nat) (Option.none : Option Jvm.ClassFile.FieldType)) ∈ lw_all := lw_g (lw_at lw_m6 142 rfl) rfl
theorem q1479 : (Jvm.Cond.methodLink "MovedSpanModel" (7 : Nat) ({ cls := "java/lang/Object", name := "<init>", desc := "()V" } : Jvm.MethodName)) ∈ lw_all := lw_g (lw_at lw_m6 143 rfl) rfl
theorem q1480 : (Jvm.Cond.methodLink "MovedSpanModel" (91 : Nat) ({ cls := "MovedSpanModel", name := "plain", desc := "([I)V" } : Jvm.MethodName)) ∈ lw_all := lw_g (lw_at lw_m6 144 rfl) rfl
theorem q1481 : (Jvm.Cond.static ({ cls := "MovedSpanModel", name := "plain", desc := "([I)V" } : Jvm.MethodName)) ∈ lw_all := lw_g (lw_at lw_m6 145 rfl) rfl
theorem q1482 : (Jvm.Cond.code ({ cls := "MovedSpanModel", name := "plain", desc := "([I)V" } : Jvm.MethodName) prog_20_method_4_code (2 : Nat) (Option.none : Option Jvm.ClassFile.FieldType)) ∈ lw_all := lw_g (lw_at lw_m6 146 rfl) rfl
theorem q1483 : (Jvm.Cond.fieldLink "MovedSpanModel" (1 : Nat) "MovedSpanModel" "thrown" "I") ∈ lw_all := lw_g (lw_at lw_m6 147 rfl) rfl
theorem q1484 : (Jvm.Cond.fieldLink "MovedSpanModel" (13 : Nat) "MovedSpanModel" "all" "[I") ∈ lw_all := lw_g (lw_at lw_m6 148 rfl) rfl
theorem q1485 : (Jvm.Cond.fieldLink "MovedSpanModel" (17 : Nat) "MovedSpanModel" "hasImage" "[Z") ∈ lw_all := lw_g (lw_at lw_m6 149 rfl) rfl
theorem q1486 : (Jvm.Cond.fieldLink "MovedSpanModel" (21 : Nat) "MovedSpanModel" "tape" "[I") ∈ lw_all := lw_g (lw_at lw_m6 150 rfl) rfl
theorem q1487 : (Jvm.Cond.fieldLink "MovedSpanModel" (24 : Nat) "MovedSpanModel" "fresh" "[I") ∈ lw_all := lw_g (lw_at lw_m6 151 rfl) rfl
theorem q1488 : (Jvm.Cond.fieldLink "MovedSpanModel" (95 : Nat) "MovedSpanModel" "taped" "I") ∈ lw_all := lw_g (lw_at lw_m6 152 rfl) rfl
theorem q1489 : (Jvm.Cond.fieldLink "MovedSpanModel" (113 : Nat) "MovedSpanModel" "at" "I") ∈ lw_all := lw_g (lw_at lw_m6 153 rfl) rfl
theorem q1490 : (Jvm.Cond.fieldLink "MovedSpanModel" (116 : Nat) "MovedSpanModel" "behind" "I") ∈ lw_all := lw_g (lw_at lw_m6 154 rfl) rfl
theorem q1491 : (Jvm.Cond.fieldLink "MovedSpanModel" (98 : Nat) "MovedSpanModel" "size" "I") ∈ lw_all := lw_g (lw_at lw_m6 155 rfl) rfl
theorem q1492 : (Jvm.Cond.fieldLink "MovedSpanModel" (123 : Nat) "MovedSpanModel" "kind" "I") ∈ lw_all := lw_g (lw_at lw_m6 156 rfl) rfl
theorem q1493 : (Jvm.Cond.fieldLink "MovedSpanModel" (136 : Nat) "MovedSpanModel" "number" "I") ∈ lw_all := lw_g (lw_at lw_m6 157 rfl) rfl
theorem q1494 : (Jvm.Cond.fieldLink "MovedSpanModel" (141 : Nat) "MovedSpanModel" "wrong" "I") ∈ lw_all := lw_g (lw_at lw_m6 158 rfl) rfl
theorem q1495 : (Jvm.Cond.fieldLink "MovedSpanModel" (144 : Nat) "MovedSpanModel" "wrongAt" "I") ∈ lw_all := lw_g (lw_at lw_m6 159 rfl) rfl
theorem q1496 : (Jvm.Cond.fieldLink "MovedSpanModel" (219 : Nat) "MovedSpanModel" "faultKind" "I") ∈ lw_all := lw_g (lw_at lw_m6 160 rfl) rfl
theorem q1497 : (Jvm.Cond.fieldLink "MovedSpanModel" (27 : Nat) "MovedSpanModel" "faultPlace" "I") ∈ lw_all := lw_g (lw_at lw_m6 161 rfl) rfl
theorem q1498 : (Jvm.Cond.fieldLink "MovedSpanModel" (161 : Nat) "MovedSpanModel" "reading" "I") ∈ lw_all := lw_g (lw_at lw_m6 162 rfl) rfl
theorem q1499 : (Jvm.Cond.fieldLink "MovedSpanModel" (30 : Nat) "MovedSpanModel" "reckoned" "[I") ∈ lw_all := lw_g (lw_at lw_m6 163 rfl) rfl
theorem q1500 : (Jvm.Cond.fieldLink "MovedSpanModel" (33 : Nat) "MovedSpanModel" "words" "[I") ∈ lw_all := lw_g (lw_at lw_m6 164 rfl) rfl
theorem q1501 : (Jvm.Cond.fieldLink "MovedSpanModel" (36 : Nat) "MovedSpanModel" "was" "[I") ∈ lw_all := lw_g (lw_at lw_m6 165 rfl) rfl
theorem q1502 : (Jvm.Cond.fieldLink "MovedSpanModel" (297 : Nat) "MovedSpanModel" "toldWhy" "I") ∈ lw_all := lw_g (lw_at lw_m6 166 rfl) rfl
theorem q1503 : (Jvm.Cond.fieldLink "MovedSpanModel" (319 : Nat) "MovedSpanModel" "x" "I") ∈ lw_all := lw_g (lw_at lw_m6 167 rfl) rfl
theorem q1504 : (Jvm.Cond.fieldLink "MovedSpanModel" (39 : Nat) "MovedSpanModel" "ups" "[I") ∈ lw_all := lw_g (lw_at lw_m6 168 rfl) rfl
theorem q1505 : (Jvm.Cond.fieldLink "MovedSpanModel" (42 : Nat) "MovedSpanModel" "downs" "[I") ∈ lw_all := lw_g (lw_at lw_m6 169 rfl) rfl
theorem q1506 : (Jvm.Cond.fieldLink "MovedSpanModel" (45 : Nat) "MovedSpanModel" "served" "[I") ∈ lw_all := lw_g (lw_at lw_m6 170 rfl) rfl
theorem q1507 : (Jvm.Cond.fieldLink "MovedSpanModel" (48 : Nat) "MovedSpanModel" "goods" "[I") ∈ lw_all := lw_g (lw_at lw_m6 171 rfl) rfl
theorem q1508 : (Jvm.Cond.fieldLink "MovedSpanModel" (51 : Nat) "MovedSpanModel" "acts" "[I") ∈ lw_all := lw_g (lw_at lw_m6 172 rfl) rfl
theorem q1509 : (Jvm.Cond.fieldLink "MovedSpanModel" (54 : Nat) "MovedSpanModel" "ways" "[J") ∈ lw_all := lw_g (lw_at lw_m6 173 rfl) rfl
theorem q1510 : (Jvm.Cond.fieldLink "MovedSpanModel" (58 : Nat) "MovedSpanModel" "waysThen" "[J") ∈ lw_all := lw_g (lw_at lw_m6 174 rfl) rfl
theorem q1511 : (Jvm.Cond.fieldLink "MovedSpanModel" (61 : Nat) "MovedSpanModel" "weekWas" "[I") ∈ lw_all := lw_g (lw_at lw_m6 175 rfl) rfl
theorem q1512 : (Jvm.Cond.fieldLink "MovedSpanModel" (64 : Nat) "MovedSpanModel" "bestWeek" "[I") ∈ lw_all := lw_g (lw_at lw_m6 176 rfl) rfl
theorem q1513 : (Jvm.Cond.fieldLink "MovedSpanModel" (67 : Nat) "MovedSpanModel" "upsOf" "[I") ∈ lw_all := lw_g (lw_at lw_m6 177 rfl) rfl
theorem q1514 : (Jvm.Cond.fieldLink "MovedSpanModel" (70 : Nat) "MovedSpanModel" "downsOf" "[I") ∈ lw_all := lw_g (lw_at lw_m6 178 rfl) rfl
theorem q1515 : (Jvm.Cond.fieldLink "MovedSpanModel" (73 : Nat) "MovedSpanModel" "servedOf" "[I") ∈ lw_all := lw_g (lw_at lw_m6 179 rfl) rfl
theorem q1516 : (Jvm.Cond.fieldLink "MovedSpanModel" (393 : Nat) "MovedSpanModel" "bestMany" "I") ∈ lw_all := lw_g (lw_at lw_m6 180 rfl) rfl
theorem q1517 : (Jvm.Cond.fieldLink "MovedSpanModel" (396 : Nat) "MovedSpanModel" "bestMoves" "I") ∈ lw_all := lw_g (lw_at lw_m6 181 rfl) rfl
theorem q1518 : (Jvm.Cond.fieldLink "MovedSpanModel" (387 : Nat) "MovedSpanModel" "fullWeeks" "I") ∈ lw_all := lw_g (lw_at lw_m6 182 rfl) rfl
theorem q1519 : (Jvm.Cond.fieldLink "MovedSpanModel" (76 : Nat) "MovedSpanModel" "chances" "[J") ∈ lw_all := lw_g (lw_at lw_m6 183 rfl) rfl
theorem q1520 : (Jvm.Cond.fieldLink "MovedSpanModel" (79 : Nat) "MovedSpanModel" "chancesThen" "[J") ∈ lw_all := lw_g (lw_at lw_m6 184 rfl) rfl
theorem q1521 : (Jvm.Cond.fieldLink "MovedSpanModel" (82 : Nat) "MovedSpanModel" "rowSort" "[I") ∈ lw_all := lw_g (lw_at lw_m6 185 rfl) rfl
theorem q1522 : (Jvm.Cond.fieldLink "MovedSpanModel" (85 : Nat) "MovedSpanModel" "rowMany" "[I") ∈ lw_all := lw_g (lw_at lw_m6 186 rfl) rfl
theorem q1523 : (Jvm.Cond.fieldLink "MovedSpanModel" (88 : Nat) "MovedSpanModel" "numbers" "[J") ∈ lw_all := lw_g (lw_at lw_m6 187 rfl) rfl
theorem q1524 : (Jvm.Cond.lays "MovedSpanModel" "MovedSpanModel" "thrown" "I") ∈ lw_all := lw_g (lw_at lw_m6 188 rfl) rfl
theorem q1525 : (Jvm.Cond.soleField "MovedSpanModel" "thrown") ∈ lw_all := lw_g (lw_at lw_m6 189 rfl) rfl
theorem q1526 : (Jvm.Cond.laysFinal "MovedSpanModel" "MovedSpanModel" "all" "[I") ∈ lw_all := lw_g (lw_at lw_m6 190 rfl) rfl
theorem q1527 : (Jvm.Cond.soleField "MovedSpanModel" "all") ∈ lw_all := lw_g (lw_at lw_m6 191 rfl) rfl
theorem q1528 : (Jvm.Cond.laysFinal "MovedSpanModel" "MovedSpanModel" "hasImage" "[Z") ∈ lw_all := lw_g (lw_at lw_m6 192 rfl) rfl
theorem q1529 : (Jvm.Cond.soleField "MovedSpanModel" "hasImage") ∈ lw_all := lw_g (lw_at lw_m6 193 rfl) rfl
theorem q1530 : (Jvm.Cond.laysFinal "MovedSpanModel" "MovedSpanModel" "tape" "[I") ∈ lw_all := lw_g (lw_at lw_m6 194 rfl) rfl
theorem q1531 : (Jvm.Cond.soleField "MovedSpanModel" "tape") ∈ lw_all := lw_g (lw_at lw_m6 195 rfl) rfl
theorem q1532 : (Jvm.Cond.laysFinal "MovedSpanModel" "MovedSpanModel" "fresh" "[I") ∈ lw_all := lw_g (lw_at lw_m6 196 rfl) rfl
theorem q1533 : (Jvm.Cond.soleField "MovedSpanModel" "fresh") ∈ lw_all := lw_g (lw_at lw_m6 197 rfl) rfl
theorem q1534 : (Jvm.Cond.lays "MovedSpanModel" "MovedSpanModel" "taped" "I") ∈ lw_all := lw_g (lw_at lw_m6 198 rfl) rfl
theorem q1535 : (Jvm.Cond.soleField "MovedSpanModel" "taped") ∈ lw_all := lw_g (lw_at lw_m6 199 rfl) rfl
theorem q1536 : (Jvm.Cond.lays "MovedSpanModel" "MovedSpanModel" "at" "I") ∈ lw_all := lw_g (lw_at lw_m6 200 rfl) rfl
theorem q1537 : (Jvm.Cond.soleField "MovedSpanModel" "at") ∈ lw_all := lw_g (lw_at lw_m6 201 rfl) rfl
theorem q1538 : (Jvm.Cond.lays "MovedSpanModel" "MovedSpanModel" "behind" "I") ∈ lw_all := lw_g (lw_at lw_m6 202 rfl) rfl
theorem q1539 : (Jvm.Cond.soleField "MovedSpanModel" "behind") ∈ lw_all := lw_g (lw_at lw_m6 203 rfl) rfl
theorem q1540 : (Jvm.Cond.lays "MovedSpanModel" "MovedSpanModel" "size" "I") ∈ lw_all := lw_g (lw_at lw_m6 204 rfl) rfl
theorem q1541 : (Jvm.Cond.soleField "MovedSpanModel" "size") ∈ lw_all := lw_g (lw_at lw_m6 205 rfl) rfl
theorem q1542 : (Jvm.Cond.lays "MovedSpanModel" "MovedSpanModel" "kind" "I") ∈ lw_all := lw_g (lw_at lw_m6 206 rfl) rfl
theorem q1543 : (Jvm.Cond.soleField "MovedSpanModel" "kind") ∈ lw_all := lw_g (lw_at lw_m6 207 rfl) rfl
theorem q1544 : (Jvm.Cond.lays "MovedSpanModel" "MovedSpanModel" "number" "I") ∈ lw_all := lw_g (lw_at lw_m6 208 rfl) rfl
theorem q1545 : (Jvm.Cond.soleField "MovedSpanModel" "number") ∈ lw_all := lw_g (lw_at lw_m6 209 rfl) rfl
theorem q1546 : (Jvm.Cond.lays "MovedSpanModel" "MovedSpanModel" "wrong" "I") ∈ lw_all := lw_g (lw_at lw_m6 210 rfl) rfl
theorem q1547 : (Jvm.Cond.soleField "MovedSpanModel" "wrong") ∈ lw_all := lw_g (lw_at lw_m6 211 rfl) rfl
theorem q1548 : (Jvm.Cond.lays "MovedSpanModel" "MovedSpanModel" "wrongAt" "I") ∈ lw_all := lw_g (lw_at lw_m6 212 rfl) rfl
theorem q1549 : (Jvm.Cond.soleField "MovedSpanModel" "wrongAt") ∈ lw_all := lw_g (lw_at lw_m6 213 rfl) rfl
theorem q1550 : (Jvm.Cond.lays "MovedSpanModel" "MovedSpanModel" "faultKind" "I") ∈ lw_all := lw_g (lw_at lw_m6 214 rfl) rfl
theorem q1551 : (Jvm.Cond.soleField "MovedSpanModel" "faultKind") ∈ lw_all := lw_g (lw_at lw_m6 215 rfl) rfl
theorem q1552 : (Jvm.Cond.lays "MovedSpanModel" "MovedSpanModel" "faultPlace" "I") ∈ lw_all := lw_g (lw_at lw_m6 216 rfl) rfl
theorem q1553 : (Jvm.Cond.soleField "MovedSpanModel" "faultPlace") ∈ lw_all := lw_g (lw_at lw_m6 217 rfl) rfl
theorem q1554 : (Jvm.Cond.lays "MovedSpanModel" "MovedSpanModel" "reading" "I") ∈ lw_all := lw_g (lw_at lw_m6 218 rfl) rfl
theorem q1555 : (Jvm.Cond.soleField "MovedSpanModel" "reading") ∈ lw_all := lw_g (lw_at lw_m6 219 rfl) rfl
theorem q1556 : (Jvm.Cond.laysFinal "MovedSpanModel" "MovedSpanModel" "reckoned" "[I") ∈ lw_all := lw_g (lw_at lw_m6 220 rfl) rfl
theorem q1557 : (Jvm.Cond.soleField "MovedSpanModel" "reckoned") ∈ lw_all := lw_g (lw_at lw_m6 221 rfl) rfl
theorem q1558 : (Jvm.Cond.laysFinal "MovedSpanModel" "MovedSpanModel" "words" "[I") ∈ lw_all := lw_g (lw_at lw_m6 222 rfl) rfl
theorem q1559 : (Jvm.Cond.soleField "MovedSpanModel" "words") ∈ lw_all := lw_g (lw_at lw_m6 223 rfl) rfl
theorem q1560 : (Jvm.Cond.laysFinal "MovedSpanModel" "MovedSpanModel" "was" "[I") ∈ lw_all := lw_g (lw_at lw_m6 224 rfl) rfl
theorem q1561 : (Jvm.Cond.soleField "MovedSpanModel" "was") ∈ lw_all := lw_g (lw_at lw_m6 225 rfl) rfl
theorem q1562 : (Jvm.Cond.lays "MovedSpanModel" "MovedSpanModel" "toldWhy" "I") ∈ lw_all := lw_g (lw_at lw_m6 226 rfl) rfl
theorem q1563 : (Jvm.Cond.soleField "MovedSpanModel" "toldWhy") ∈ lw_all := lw_g (lw_at lw_m6 227 rfl) rfl
theorem q1564 : (Jvm.Cond.lays "MovedSpanModel" "MovedSpanModel" "x" "I") ∈ lw_all := lw_g (lw_at lw_m6 228 rfl) rfl
theorem q1565 : (Jvm.Cond.soleField "MovedSpanModel" "x") ∈ lw_all := lw_g (lw_at lw_m6 229 rfl) rfl
theorem q1566 : (Jvm.Cond.laysFinal "MovedSpanModel" "MovedSpanModel" "ups" "[I") ∈ lw_all := lw_g (lw_at lw_m6 230 rfl) rfl
theorem q1567 : (Jvm.Cond.soleField "MovedSpanModel" "ups") ∈ lw_all := lw_g (lw_at lw_m6 231 rfl) rfl
theorem q1568 : (Jvm.Cond.laysFinal "MovedSpanModel" "MovedSpanModel" "downs" "[I") ∈ lw_all := lw_g (lw_at lw_m6 232 rfl) rfl
theorem q1569 : (Jvm.Cond.soleField "MovedSpanModel" "downs") ∈ lw_all := lw_g (lw_at lw_m6 233 rfl) rfl
theorem q1570 : (Jvm.Cond.laysFinal "MovedSpanModel" "MovedSpanModel" "served" "[I") ∈ lw_all := lw_g (lw_at lw_m6 234 rfl) rfl
theorem q1571 : (Jvm.Cond.soleField "MovedSpanModel" "served") ∈ lw_all := lw_g (lw_at lw_m6 235 rfl) rfl
theorem q1572 : (Jvm.Cond.laysFinal "MovedSpanModel" "MovedSpanModel" "goods" "[I") ∈ lw_all := lw_g (lw_at lw_m6 236 rfl) rfl
theorem q1573 : (Jvm.Cond.soleField "MovedSpanModel" "goods") ∈ lw_all := lw_g (lw_at lw_m6 237 rfl) rfl
theorem q1574 : (Jvm.Cond.laysFinal "MovedSpanModel" "MovedSpanModel" "acts" "[I") ∈ lw_all := lw_g (lw_at lw_m6 238 rfl) rfl
theorem q1575 : (Jvm.Cond.soleField "MovedSpanModel" "acts") ∈ lw_all := lw_g (lw_at lw_m6 239 rfl) rfl
theorem q1576 : (Jvm.Cond.laysFinal "MovedSpanModel" "MovedSpanModel" "ways" "[J") ∈ lw_all := lw_g (lw_at lw_m7 0 rfl) rfl
theorem q1577 : (Jvm.Cond.soleField "MovedSpanModel" "ways") ∈ lw_all := lw_g (lw_at lw_m7 1 rfl) rfl
theorem q1578 : (Jvm.Cond.laysFinal "MovedSpanModel" "MovedSpanModel" "waysThen" "[J") ∈ lw_all := lw_g (lw_at lw_m7 2 rfl) rfl
theorem q1579 : (Jvm.Cond.soleField "MovedSpanModel" "waysThen") ∈ lw_all := lw_g (lw_at lw_m7 3 rfl) rfl
theorem q1580 : (Jvm.Cond.laysFinal "MovedSpanModel" "MovedSpanModel" "weekWas" "[I") ∈ lw_all := lw_g (lw_at lw_m7 4 rfl) rfl
theorem q1581 : (Jvm.Cond.soleField "MovedSpanModel" "weekWas") ∈ lw_all := lw_g (lw_at lw_m7 5 rfl) rfl
theorem q1582 : (Jvm.Cond.laysFinal "MovedSpanModel" "MovedSpanModel" "bestWeek" "[I") ∈ lw_all := lw_g (lw_at lw_m7 6 rfl) rfl
theorem q1583 : (Jvm.Cond.soleField "MovedSpanModel" "bestWeek") ∈ lw_all := lw_g (lw_at lw_m7 7 rfl) rfl
theorem q1584 : (Jvm.Cond.laysFinal "MovedSpanModel" "MovedSpanModel" "upsOf" "[I") ∈ lw_all := lw_g (lw_at lw_m7 8 rfl) rfl
theorem q1585 : (Jvm.Cond.soleField "MovedSpanModel" "upsOf") ∈ lw_all := lw_g (lw_at lw_m7 9 rfl) rfl
theorem q1586 : (Jvm.Cond.laysFinal "MovedSpanModel" "MovedSpanModel" "downsOf" "[I") ∈ lw_all := lw_g (lw_at lw_m7 10 rfl) rfl
theorem q1587 : (Jvm.Cond.soleField "MovedSpanModel" "downsOf") ∈ lw_all := lw_g (lw_at lw_m7 11 rfl) rfl
theorem q1588 : (Jvm.Cond.laysFinal "MovedSpanModel" "MovedSpanModel" "servedOf" "[I") ∈ lw_all := lw_g (lw_at lw_m7 12 rfl) rfl
theorem q1589 : (Jvm.Cond.soleField "MovedSpanModel" "servedOf") ∈ lw_all := lw_g (lw_at lw_m7 13 rfl) rfl
theorem q1590 : (Jvm.Cond.lays "MovedSpanModel" "MovedSpanModel" "bestMany" "I") ∈ lw_all := lw_g (lw_at lw_m7 14 rfl) rfl
theorem q1591 : (Jvm.Cond.soleField "MovedSpanModel" "bestMany") ∈ lw_all := lw_g (lw_at lw_m7 15 rfl) rfl
theorem q1592 : (Jvm.Cond.lays "MovedSpanModel" "MovedSpanModel" "bestMoves" "I") ∈ lw_all := lw_g (lw_at lw_m7 16 rfl) rfl
theorem q1593 : (Jvm.Cond.soleField "MovedSpanModel" "bestMoves") ∈ lw_all := lw_g (lw_at lw_m7 17 rfl) rfl
theorem q1594 : (Jvm.Cond.lays "MovedSpanModel" "MovedSpanModel" "fullWeeks" "I") ∈ lw_all := lw_g (lw_at lw_m7 18 rfl) rfl
theorem q1595 : (Jvm.Cond.soleField "MovedSpanModel" "fullWeeks") ∈ lw_all := lw_g (lw_at lw_m7 19 rfl) rfl
theorem q1596 : (Jvm.Cond.laysFinal "MovedSpanModel" "MovedSpanModel" "chances" "[J") ∈ lw_all := lw_g (lw_at lw_m7 20 rfl) rfl
theorem q1597 : (Jvm.Cond.soleField "MovedSpanModel" "chances") ∈ lw_all := lw_g (lw_at lw_m7 21 rfl) rfl
theorem q1598 : (Jvm.Cond.laysFinal "MovedSpanModel" "MovedSpanModel" "chancesThen" "[J") ∈ lw_all := lw_g (lw_at lw_m7 22 rfl) rfl
theorem q1599 : (Jvm.Cond.soleField "MovedSpanModel" "chancesThen") ∈ lw_all := lw_g (lw_at lw_m7 23 rfl) rfl
theorem q1600 : (Jvm.Cond.laysFinal "MovedSpanModel" "MovedSpanModel" "rowSort" "[I") ∈ lw_all := lw_g (lw_at lw_m7 24 rfl) rfl
theorem q1601 : (Jvm.Cond.soleField "MovedSpanModel" "rowSort") ∈ lw_all := lw_g (lw_at lw_m7 25 rfl) rfl
theorem q1602 : (Jvm.Cond.laysFinal "MovedSpanModel" "MovedSpanModel" "rowMany" "[I") ∈ lw_all := lw_g (lw_at lw_m7 26 rfl) rfl
theorem q1603 : (Jvm.Cond.soleField "MovedSpanModel" "rowMany") ∈ lw_all := lw_g (lw_at lw_m7 27 rfl) rfl
theorem q1604 : (Jvm.Cond.laysFinal "MovedSpanModel" "MovedSpanModel" "numbers" "[J") ∈ lw_all := lw_g (lw_at lw_m7 28 rfl) rfl
theorem q1605 : (Jvm.Cond.soleField "MovedSpanModel" "numbers") ∈ lw_all := lw_g (lw_at lw_m7 29 rfl) rfl
theorem q1606 : (Jvm.Cond.superclass "MovedSpanModel" "java/lang/Object") ∈ lw_all := lw_g (lw_at lw_m7 30 rfl) rfl
theorem q1609 : (Jvm.Cond.instanceMethod ({ cls := "MovedSpanModel", name := "feed", desc := "(IIIII)I" } : Jvm.MethodName)) ∈ lw_all := lw_g (lw_at lw_m7 33 rfl) rfl
theorem q1610 : (Jvm.Cond.selects "MovedSpanModel" ({ cls := "MovedSpanModel", name := "feed", desc := "(IIIII)I" } : Jvm.MethodName) ({ cls := "MovedSpanModel", name := "feed", desc := "(IIIII)I" } : Jvm.MethodName)) ∈ lw_all := lw_g (lw_at lw_m7 34 rfl) rfl
theorem q1611 : (Jvm.Cond.code ({ cls := "MovedSpanModel", name := "feed", desc := "(IIIII)I" } : Jvm.MethodName) prog_20_method_5_code (8 : Nat) (Option.some Jvm.ClassFile.FieldType.int)) ∈ lw_all := lw_g (lw_at lw_m7 35 rfl) rfl
theorem q1613 : (Jvm.Cond.instanceMethod ({ cls := "MovedSpanModel", name := "river", desc := "(I)I" } : Jvm.MethodName)) ∈ lw_all := lw_g (lw_at lw_m7 37 rfl) rfl
theorem q1614 : (Jvm.Cond.selects "MovedSpanModel" ({ cls := "MovedSpanModel", name := "river", desc := "(I)I" } : Jvm.MethodName) ({ cls := "MovedSpanModel", name := "river", desc := "(I)I" } : Jvm.MethodName)) ∈ lw_all := lw_g (lw_at lw_m7 38 rfl) rfl
theorem q1615 : (Jvm.Cond.code ({ cls := "MovedSpanModel", name := "river", desc := "(I)I" } : Jvm.MethodName) prog_20_method_32_code (3 : Nat) (Option.some Jvm.ClassFile.FieldType.int)) ∈ lw_all := lw_g (lw_at lw_m7 39 rfl) rfl
theorem q1616 : (Jvm.Cond.methodLink "MovedSpanModel" (157 : Nat) ({ cls := "MovedSpanModel", name := "within", desc := "(JJJ)Z" } : Jvm.MethodName)) ∈ lw_all := lw_g (lw_at lw_m7 40 rfl) rfl
theorem q1617 : (Jvm.Cond.static ({ cls := "MovedSpanModel", name := "within", desc := "(JJJ)Z" } : Jvm.MethodName)) ∈ lw_all := lw_g (lw_at lw_m7 41 rfl) rfl
theorem q1618 : (Jvm.Cond.code ({ cls := "MovedSpanModel", name := "within", desc := "(JJJ)Z" } : Jvm.MethodName) prog_20_method_2_code (6 : Nat) (Option.some Jvm.ClassFile.FieldType.boolean)) ∈ lw_all := lw_g (lw_at lw_m7 42 rfl) rfl
theorem q1619 : (Jvm.Cond.methodLink "MovedSpanModel" (150 : Nat) ({ cls := "MovedSpanModel", name := "next", desc := "()V" } : Jvm.MethodName)) ∈ lw_all := lw_g (lw_at lw_m7 43 rfl) rfl
theorem q1620 : (Jvm.Cond.privateMethod ({ cls := "MovedSpanModel", name := "next", desc := "()V" } : Jvm.MethodName)) ∈ lw_tbl := lw_at lw_m7 44 rfl
theorem q1621 : (Jvm.Cond.instanceMethod ({ cls := "MovedSpanModel", name := "next", desc := "()V" } : Jvm.MethodName)) ∈ lw_all := lw_g (lw_at lw_m7 45 rfl) rfl
theorem q1622 : (Jvm.Cond.code ({ cls := "MovedSpanModel", name := "next", desc := "()V" } : Jvm.MethodName) prog_20_method_10_code (2 : Nat) (Option.none : Option Jvm.ClassFile.FieldType)) ∈ lw_all := lw_g (lw_at lw_m7 46 rfl) rfl
theorem q1623 : (Jvm.Cond.methodLink "MovedSpanModel" (119 : Nat) ({ cls := "MovedSpanModel", name := "see", desc := "(I)I" } : Jvm.MethodName)) ∈ lw_all := lw_g (lw_at lw_m7 47 rfl) rfl
theorem q1624 : (Jvm.Cond.privateMethod ({ cls := "MovedSpanModel", name := "see", desc := "(I)I" } : Jvm.MethodName)) ∈ lw_tbl := lw_at lw_m7 48 rfl
theorem q1625 : (Jvm.Cond.instanceMethod ({ cls := "MovedSpanModel", name := "see", desc := "(I)I" } : Jvm.MethodName)) ∈ lw_all := lw_g (lw_at lw_m7 49 rfl) rfl
theorem q1626 : (Jvm.Cond.code ({ cls := "MovedSpanModel", name := "see", desc := "(I)I" } : Jvm.MethodName) prog_20_method_6_code (2 : Nat) (Option.some Jvm.ClassFile.FieldType.int)) ∈ lw_all := lw_g (lw_at lw_m7 50 rfl) rfl
theorem q1627 : (Jvm.Cond.methodLink "MovedSpanModel" (126 : Nat) ({ cls := "MovedSpanModel", name := "isSmall", desc := "(I)Z" } : Jvm.MethodName)) ∈ lw_all := lw_g (lw_at lw_m7 51 rfl) rfl
theorem q1628 : (Jvm.Cond.static ({ cls := "MovedSpanModel", name := "isSmall", desc := "(I)Z" } : Jvm.MethodName)) ∈ lw_all := lw_g (lw_at lw_m7 52 rfl) rfl
theorem q1629 : (Jvm.Cond.code ({ cls := "MovedSpanModel", name := "isSmall", desc := "(I)Z" } : Jvm.MethodName) prog_20_method_7_code (1 : Nat) (Option.some Jvm.ClassFile.FieldType.boolean)) ∈ lw_all := lw_g (lw_at lw_m7 53 rfl) rfl
theorem q1630 : (Jvm.Cond.methodLink "MovedSpanModel" (130 : Nat) ({ cls := "MovedSpanModel", name := "keyAt", desc := "()I" } : Jvm.MethodName)) ∈ lw_all := lw_g (lw_at lw_m7 54 rfl) rfl
theorem q1631 : (Jvm.Cond.privateMethod ({ cls := "MovedSpanModel", name := "keyAt", desc := "()I" } : Jvm.MethodName)) ∈ lw_tbl := lw_at lw_m7 55 rfl
theorem q1632 : (Jvm.Cond.instanceMethod ({ cls := "MovedSpanModel", name := "keyAt", desc := "()I" } : Jvm.MethodName)) ∈ lw_all := lw_g (lw_at lw_m7 56 rfl) rfl
theorem q1633 : (Jvm.Cond.code ({ cls := "MovedSpanModel", name := "keyAt", desc := "()I" } : Jvm.MethodName) prog_20_method_9_code (4 : Nat) (Option.some Jvm.ClassFile.FieldType.int)) ∈ lw_all := lw_g (lw_at lw_m7 57 rfl) rfl
theorem q1634 : (Jvm.Cond.stringRef "MovedSpanModel" (101 : Nat) " river week span at rest person west east load to by walks serves foggy hour gap who fog side and or not ") ∈ lw_tbl := lw_at lw_m7 58 rfl
theorem q1635 : (Jvm.Cond.methodLink "MovedSpanModel" (103 : Nat) ({ cls := "java/lang/String", name := "length", desc := "()I" } : Jvm.MethodName)) ∈ lw_all := lw_g (lw_at lw_m7 59 rfl) rfl
theorem q1636 : (Jvm.Cond.methodLink "MovedSpanModel" (109 : Nat) ({ cls := "java/lang/String", name := "charAt", desc := "(I)C" } : Jvm.MethodName)) ∈ lw_all := lw_g (lw_at lw_m7 60 rfl) rfl
theorem q1637 : (Jvm.Cond.methodLink "MovedSpanModel" (133 : Nat) ({ cls := "MovedSpanModel", name := "isDigit", desc := "(I)Z" } : Jvm.MethodName)) ∈ lw_all := lw_g (lw_at lw_m7 61 rfl) rfl
theorem q1638 : (Jvm.Cond.static ({ cls := "MovedSpanModel", name := "isDigit", desc := "(I)Z" } : Jvm.MethodName)) ∈ lw_all := lw_g (lw_at lw_m7 62 rfl) rfl
theorem q1639 : (Jvm.Cond.code ({ cls := "MovedSpanModel", name := "isDigit", desc := "(I)Z" } : Jvm.MethodName) prog_20_method_8_code (1 : Nat) (Option.some Jvm.ClassFile.FieldType.boolean)) ∈ lw_all := lw_g (lw_at lw_m7 63 rfl) rfl
theorem q1640 : (Jvm.Cond.stringRef "MovedSpanModel" (139 : Nat) ";:+-*()[]=<>") ∈ lw_tbl := lw_at lw_m7 64 rfl
theorem q1641 : (Jvm.Cond.methodLink "MovedSpanModel" (176 : Nat) ({ cls := "MovedSpanModel", name := "eats", desc := "(I)Z" } : Jvm.MethodName)) ∈ lw_all := lw_g (lw_at lw_m7 65 rfl) rfl
theorem q1642 : (Jvm.Cond.privateMethod ({ cls := "MovedSpanModel", name := "eats", desc := "(I)Z" } : Jvm.MethodName)) ∈ lw_tbl := lw_at lw_m7 66 rfl
theorem q1643 : (Jvm.Cond.instanceMethod ({ cls := "MovedSpanModel", name := "eats", desc := "(I)Z" } : Jvm.MethodName)) ∈ lw_all := lw_g (lw_at lw_m7 67 rfl) rfl
theorem q1644 : (Jvm.Cond.code ({ cls := "MovedSpanModel", name := "eats", desc := "(I)Z" } : Jvm.MethodName) prog_20_method_13_code (2 : Nat) (Option.some Jvm.ClassFile.FieldType.boolean)) ∈ lw_all := lw_g (lw_at lw_m7 68 rfl) rfl
theorem q1645 : (Jvm.Cond.methodLink "MovedSpanModel" (147 : Nat) ({ cls := "MovedSpanModel", name := "is", desc := "(I)Z" } : Jvm.MethodName)) ∈ lw_all := lw_g (lw_at lw_m7 69 rfl) rfl
theorem q1646 : (Jvm.Cond.privateMethod ({ cls := "MovedSpanModel", name := "is", desc := "(I)Z" } : Jvm.MethodName)) ∈ lw_tbl := lw_at lw_m7 70 rfl
theorem q1647 : (Jvm.Cond.instanceMethod ({ cls := "MovedSpanModel", name := "is", desc := "(I)Z" } : Jvm.MethodName)) ∈ lw_all := lw_g (lw_at lw_m7 71 rfl) rfl
theorem q1648 : (Jvm.Cond.code ({ cls := "MovedSpanModel", name := "is", desc := "(I)Z" } : Jvm.MethodName) prog_20_method_12_code (2 : Nat) (Option.some Jvm.ClassFile.FieldType.boolean)) ∈ lw_all := lw_g (lw_at lw_m7 72 rfl) rfl
theorem q1649 : (Jvm.Cond.methodLink "MovedSpanModel" (153 : Nat) ({ cls := "MovedSpanModel", name := "fails", desc := "(I)V" } : Jvm.MethodName)) ∈ lw_all := lw_g (lw_at lw_m7 73 rfl) rfl
theorem q1650 : (Jvm.Cond.privateMethod ({ cls := "MovedSpanModel", name := "fails", desc := "(I)V" } : Jvm.MethodName)) ∈ lw_tbl := lw_at lw_m7 74 rfl
theorem q1651 : (Jvm.Cond.instanceMethod ({ cls := "MovedSpanModel", name := "fails", desc := "(I)V" } : Jvm.MethodName)) ∈ lw_all := lw_g (lw_at lw_m7 75 rfl) rfl
theorem q1652 : (Jvm.Cond.code ({ cls := "MovedSpanModel", name := "fails", desc := "(I)V" } : Jvm.MethodName) prog_20_method_11_code (2 : Nat) (Option.none : Option Jvm.ClassFile.FieldType)) ∈ lw_all := lw_g (lw_at lw_m7 76 rfl) rfl
theorem q1653 : (Jvm.Cond.methodLink "MovedSpanModel" (194 : Nat) ({ cls := "MovedSpanModel", name := "takes", desc := "(II)I" } : Jvm.MethodName)) ∈ lw_all := lw_g (lw_at lw_m7 77 rfl) rfl
theorem q1654 : (Jvm.Cond.privateMethod ({ cls := "MovedSpanModel", name := "takes", desc := "(II)I" } : Jvm.MethodName)) ∈ lw_tbl := lw_at lw_m7 78 rfl
theorem q1655 : (Jvm.Cond.instanceMethod ({ cls := "MovedSpanModel", name := "takes", desc := "(II)I" } : Jvm.MethodName)) ∈ lw_all := lw_g (lw_at lw_m7 79 rfl) rfl
theorem q1656 : (Jvm.Cond.code ({ cls := "MovedSpanModel", name := "takes", desc := "(II)I" } : Jvm.MethodName) prog_20_method_14_code (4 : Nat) (Option.some Jvm.ClassFile.FieldType.int)) ∈ lw_all := lw_g (lw_at lw_m7 80 rfl) rfl
theorem q1657 : (Jvm.Cond.methodLink "MovedSpanModel" (213 : Nat) ({ cls := "MovedSpanModel", name := "ends", desc := "()V" } : Jvm.MethodName)) ∈ lw_all := lw_g (lw_at lw_m7 81 rfl) rfl
theorem q1658 : (Jvm.Cond.privateMethod ({ cls := "MovedSpanModel", name := "ends", desc := "()V" } : Jvm.MethodName)) ∈ lw_tbl := lw_at lw_m7 82 rfl
theorem q1659 : (Jvm.Cond.instanceMethod ({ cls := "MovedSpanModel", name := "ends", desc := "()V" } : Jvm.MethodName)) ∈ lw_all := lw_g (lw_at lw_m7 83 rfl) rfl
theorem q1660 : (Jvm.Cond.code ({ cls := "MovedSpanModel", name := "ends", desc := "()V" } : Jvm.MethodName) prog_20_method_31_code (1 : Nat) (Option.none : Option Jvm.ClassFile.FieldType)) ∈ lw_all := lw_g (lw_at lw_m7 84 rfl) rfl
theorem q1661 : (Jvm.Cond.methodLink "MovedSpanModel" (216 : Nat) ({ cls := "MovedSpanModel", name := "readLine", desc := "()V" } : Jvm.MethodName)) ∈ lw_all := lw_g (lw_at lw_m7 85 rfl) rfl
theorem q1662 : (Jvm.Cond.privateMethod ({ cls := "MovedSpanModel", name := "readLine", desc := "()V" } : Jvm.MethodName)) ∈ lw_tbl := lw_at lw_m7 86 rfl
theorem q1663 : (Jvm.Cond.instanceMethod ({ cls := "MovedSpanModel", name := "readLine", desc := "()V" } : Jvm.MethodName)) ∈ lw_all := lw_g (lw_at lw_m7 87 rfl) rfl
theorem q1664 : (Jvm.Cond.code ({ cls := "MovedSpanModel", name := "readLine", desc := "()V" } : Jvm.MethodName) prog_20_method_30_code (1 : Nat) (Option.none : Option Jvm.ClassFile.FieldType)) ∈ lw_all := lw_g (lw_at lw_m7 88 rfl) rfl
theorem q1665 : (Jvm.Cond.methodLink "MovedSpanModel" (204 : Nat) ({ cls := "MovedSpanModel", name := "readSpan", desc := "()V" } : Jvm.MethodName)) ∈ lw_all := lw_g (lw_at lw_m7 89 rfl) rfl
theorem q1666 : (Jvm.Cond.privateMethod ({ cls := "MovedSpanModel", name := "readSpan", desc := "()V" } : Jvm.MethodName)) ∈ lw_tbl := lw_at lw_m7 90 rfl
theorem q1667 : (Jvm.Cond.instanceMethod ({ cls := "MovedSpanModel", name := "readSpan", desc := "()V" } : Jvm.MethodName)) ∈ lw_all := lw_g (lw_at lw_m7 91 rfl) rfl
theorem q1668 : (Jvm.Cond.code ({ cls := "MovedSpanModel", name := "readSpan", desc := "()V" } : Jvm.MethodName) prog_20_method_25_code (3 : Nat) (Option.none : Option Jvm.ClassFile.FieldType)) ∈ lw_all := lw_g (lw_at lw_m7 92 rfl) rfl
theorem q1669 : (Jvm.Cond.methodLink "MovedSpanModel" (207 : Nat) ({ cls := "MovedSpanModel", name := "readPerson", desc := "()V" } : Jvm.MethodName)) ∈ lw_all := lw_g (lw_at lw_m7 93 rfl) rfl
theorem q1670 : (Jvm.Cond.privateMethod ({ cls := "MovedSpanModel", name := "readPerson", desc := "()V" } : Jvm.MethodName)) ∈ lw_tbl := lw_at lw_m7 94 rfl
theorem q1671 : (Jvm.Cond.instanceMethod ({ cls := "MovedSpanModel", name := "readPerson", desc := "()V" } : Jvm.MethodName)) ∈ lw_all := lw_g (lw_at lw_m7 95 rfl) rfl
theorem q1672 : (Jvm.Cond.code ({ cls := "MovedSpanModel", name := "readPerson", desc := "()V" } : Jvm.MethodName) prog_20_method_28_code (2 : Nat) (Option.none : Option Jvm.ClassFile.FieldType)) ∈ lw_all := lw_g (lw_at lw_m7 96 rfl) rfl
theorem q1673 : (Jvm.Cond.methodLink "MovedSpanModel" (198 : Nat) ({ cls := "MovedSpanModel", name := "readSpot", desc := "()I" } : Jvm.MethodName)) ∈ lw_all := lw_g (lw_at lw_m7 97 rfl) rfl
theorem q1674 : (Jvm.Cond.privateMethod ({ cls := "MovedSpanModel", name := "readSpot", desc := "()I" } : Jvm.MethodName)) ∈ lw_tbl := lw_at lw_m7 98 rfl
theorem q1675 : (Jvm.Cond.instanceMethod ({ cls := "MovedSpanModel", name := "readSpot", desc := "()I" } : Jvm.MethodName)) ∈ lw_all := lw_g (lw_at lw_m7 99 rfl) rfl
theorem q1676 : (Jvm.Cond.code ({ cls := "MovedSpanModel", name := "readSpot", desc := "()I" } : Jvm.MethodName) prog_20_method_26_code (3 : Nat) (Option.some Jvm.ClassFile.FieldType.int)) ∈ lw_all := lw_g (lw_at lw_m7 100 rfl) rfl
theorem q1677 : (Jvm.Cond.methodLink "MovedSpanModel" (201 : Nat) ({ cls := "MovedSpanModel", name := "readFlag", desc := "(I)Z" } : Jvm.MethodName)) ∈ lw_all := lw_g (lw_at lw_m7 101 rfl) rfl
theorem q1678 : (Jvm.Cond.privateMethod ({ cls := "MovedSpanModel", name := "readFlag", desc := "(I)Z" } : Jvm.MethodName)) ∈ lw_tbl := lw_at lw_m7 102 rfl
theorem q1679 : (Jvm.Cond.instanceMethod ({ cls := "MovedSpanModel", name := "readFlag", desc := "(I)Z" } : Jvm.MethodName)) ∈ lw_all := lw_g (lw_at lw_m7 103 rfl) rfl
theorem q1680 : (Jvm.Cond.code ({ cls := "MovedSpanModel", name := "readFlag", desc := "(I)Z" } : Jvm.MethodName) prog_20_method_27_code (4 : Nat) (Option.some Jvm.ClassFile.FieldType.boolean)) ∈ lw_all := lw_g (lw_at lw_m7 104 rfl) rfl
theorem q1681 : (Jvm.Cond.methodLink "MovedSpanModel" (210 : Nat) ({ cls := "MovedSpanModel", name := "readLaw", desc := "(I)V" } : Jvm.MethodName)) ∈ lw_all := lw_g (lw_at lw_m7 105 rfl) rfl
theorem q1682 : (Jvm.Cond.privateMethod ({ cls := "MovedSpanModel", name := "readLaw", desc := "(I)V" } : Jvm.MethodName)) ∈ lw_tbl := lw_at lw_m7 106 rfl
theorem q1683 : (Jvm.Cond.instanceMethod ({ cls := "MovedSpanModel", name := "readLaw", desc := "(I)V" } : Jvm.MethodName)) ∈ lw_all := lw_g (lw_at lw_m7 107 rfl) rfl
theorem q1684 : (Jvm.Cond.code ({ cls := "MovedSpanModel", name := "readLaw", desc := "(I)V" } : Jvm.MethodName) prog_20_method_29_code (3 : Nat) (Option.none : Option Jvm.ClassFile.FieldType)) ∈ lw_all := lw_g (lw_at lw_m7 108 rfl) rfl
theorem q1685 : (Jvm.Cond.methodLink "MovedSpanModel" (188 : Nat) ({ cls := "MovedSpanModel", name := "readTruth", desc := "(I)V" } : Jvm.MethodName)) ∈ lw_all := lw_g (lw_at lw_m7 109 rfl) rfl
theorem q1686 : (Jvm.Cond.privateMethod ({ cls := "MovedSpanModel", name := "readTruth", desc := "(I)V" } : Jvm.MethodName)) ∈ lw_tbl := lw_at lw_m7 110 rfl
theorem q1687 : (Jvm.Cond.instanceMethod ({ cls := "MovedSpanModel", name := "readTruth", desc := "(I)V" } : Jvm.MethodName)) ∈ lw_all := lw_g (lw_at lw_m7 111 rfl) rfl
theorem q1688 : (Jvm.Cond.code ({ cls := "MovedSpanModel", name := "readTruth", desc := "(I)V" } : Jvm.MethodName) prog_20_method_24_code (2 : Nat) (Option.none : Option Jvm.ClassFile.FieldType)) ∈ lw_all := lw_g (lw_at lw_m7 112 rfl) rfl
theorem q1689 : (Jvm.Cond.methodLink "MovedSpanModel" (191 : Nat) ({ cls := "MovedSpanModel", name := "readBoth", desc := "(I)V" } : Jvm.MethodName)) ∈ lw_all := lw_g (lw_at lw_m7 113 rfl) rfl
theorem q1690 : (Jvm.Cond.privateMethod ({ cls := "MovedSpanModel", name := "readBoth", desc := "(I)V" } : Jvm.MethodName)) ∈ lw_tbl := lw_at lw_m7 114 rfl
theorem q1691 : (Jvm.Cond.instanceMethod ({ cls := "MovedSpanModel", name := "readBoth", desc := "(I)V" } : Jvm.MethodName)) ∈ lw_all := lw_g (lw_at lw_m7 115 rfl) rfl
theorem q1692 : (Jvm.Cond.code ({ cls := "MovedSpanModel", name := "readBoth", desc := "(I)V" } : Jvm.MethodName) prog_20_method_23_code (2 : Nat) (Option.none : Option Jvm.ClassFile.FieldType)) ∈ lw_all := lw_g (lw_at lw_m7 116 rfl) rfl
theorem q1693 : (Jvm.Cond.methodLink "MovedSpanModel" (185 : Nat) ({ cls := "MovedSpanModel", name := "readUnit", desc := "(I)V" } : Jvm.MethodName)) ∈ lw_all := lw_g (lw_at lw_m7 117 rfl) rfl
theorem q1694 : (Jvm.Cond.privateMethod ({ cls := "MovedSpanModel", name := "readUnit", desc := "(I)V" } : Jvm.MethodName)) ∈ lw_tbl := lw_at lw_m7 118 rfl
theorem q1695 : (Jvm.Cond.instanceMethod ({ cls := "MovedSpanModel", name := "readUnit", desc := "(I)V" } : Jvm.MethodName)) ∈ lw_all := lw_g (lw_at lw_m7 119 rfl) rfl
theorem q1696 : (Jvm.Cond.code ({ cls := "MovedSpanModel", name := "readUnit", desc := "(I)V" } : Jvm.MethodName) prog_20_method_22_code (3 : Nat) (Option.none : Option Jvm.ClassFile.FieldType)) ∈ lw_all := lw_g (lw_at lw_m7 120 rfl) rfl
theorem q1697 : (Jvm.Cond.methodLink "MovedSpanModel" (170 : Nat) ({ cls := "MovedSpanModel", name := "goesIn", desc := "(I)Z" } : Jvm.MethodName)) ∈ lw_all := lw_g (lw_at lw_m7 121 rfl) rfl
theorem q1698 : (Jvm.Cond.privateMethod ({ cls := "MovedSpanModel", name := "goesIn", desc := "(I)Z" } : Jvm.MethodName)) ∈ lw_tbl := lw_at lw_m7 122 rfl
theorem q1699 : (Jvm.Cond.instanceMethod ({ cls := "MovedSpanModel", name := "goesIn", desc := "(I)Z" } : Jvm.MethodName)) ∈ lw_all := lw_g (lw_at lw_m7 123 rfl) rfl
theorem q1700 : (Jvm.Cond.code ({ cls := "MovedSpanModel", name := "goesIn", desc := "(I)Z" } : Jvm.MethodName) prog_20_method_18_code (2 : Nat) (Option.some Jvm.ClassFile.FieldType.boolean)) ∈ lw_all := lw_g (lw_at lw_m7 124 rfl) rfl
theorem q1701 : (Jvm.Cond.methodLink "MovedSpanModel" (164 : Nat) ({ cls := "MovedSpanModel", name := "codes", desc := "(I)V" } : Jvm.MethodName)) ∈ lw_all := lw_g (lw_at lw_m7 125 rfl) rfl
theorem q1702 : (Jvm.Cond.privateMethod ({ cls := "MovedSpanModel", name := "codes", desc := "(I)V" } : Jvm.MethodName)) ∈ lw_tbl := lw_at lw_m7 126 rfl
theorem q1703 : (Jvm.Cond.instanceMethod ({ cls := "MovedSpanModel", name := "codes", desc := "(I)V" } : Jvm.MethodName)) ∈ lw_all := lw_g (lw_at lw_m7 127 rfl) rfl
theorem q1704 : (Jvm.Cond.code ({ cls := "MovedSpanModel", name := "codes", desc := "(I)V" } : Jvm.MethodName) prog_20_method_17_code (2 : Nat) (Option.none : Option Jvm.ClassFile.FieldType)) ∈ lw_all := lw_g (lw_at lw_m7 128 rfl) rfl
theorem q1705 : (Jvm.Cond.methodLink "MovedSpanModel" (173 : Nat) ({ cls := "MovedSpanModel", name := "readSum", desc := "(I)V" } : Jvm.MethodName)) ∈ lw_all := lw_g (lw_at lw_m7 129 rfl) rfl
theorem q1706 : (Jvm.Cond.privateMethod ({ cls := "MovedSpanModel", name := "readSum", desc := "(I)V" } : Jvm.MethodName)) ∈ lw_tbl := lw_at lw_m7 130 rfl
theorem q1707 : (Jvm.Cond.instanceMethod ({ cls := "MovedSpanModel", name := "readSum", desc := "(I)V" } : Jvm.MethodName)) ∈ lw_all := lw_g (lw_at lw_m7 131 rfl) rfl
theorem q1708 : (Jvm.Cond.code ({ cls := "MovedSpanModel", name := "readSum", desc := "(I)V" } : Jvm.MethodName) prog_20_method_21_code (3 : Nat) (Option.none : Option Jvm.ClassFile.FieldType)) ∈ lw_all := lw_g (lw_at lw_m7 132 rfl) rfl
theorem q1709 : (Jvm.Cond.methodLink "MovedSpanModel" (182 : Nat) ({ cls := "MovedSpanModel", name := "readTerm", desc := "(I)V" } : Jvm.MethodName)) ∈ lw_all := lw_g (lw_at lw_m7 133 rfl) rfl
theorem q1710 : (Jvm.Cond.privateMethod ({ cls := "MovedSpanModel", name := "readTerm", desc := "(I)V" } : Jvm.MethodName)) ∈ lw_tbl := lw_at lw_m7 134 rfl
theorem q1711 : (Jvm.Cond.instanceMethod ({ cls := "MovedSpanModel", name := "readTerm", desc := "(I)V" } : Jvm.MethodName)) ∈ lw_all := lw_g (lw_at lw_m7 135 rfl) rfl
theorem q1712 : (Jvm.Cond.code ({ cls := "MovedSpanModel", name := "readTerm", desc := "(I)V" } : Jvm.MethodName) prog_20_method_20_code (2 : Nat) (Option.none : Option Jvm.ClassFile.FieldType)) ∈ lw_all := lw_g (lw_at lw_m7 136 rfl) rfl
theorem q1713 : (Jvm.Cond.methodLink "MovedSpanModel" (179 : Nat) ({ cls := "MovedSpanModel", name := "readAtom", desc := "(I)V" } : Jvm.MethodName)) ∈ lw_all := lw_g (lw_at lw_m7 137 rfl) rfl
theorem q1714 : (Jvm.Cond.privateMethod ({ cls := "MovedSpanModel", name := "readAtom", desc := "(I)V" } : Jvm.MethodName)) ∈ lw_tbl := lw_at lw_m7 138 rfl
theorem q1715 : (Jvm.Cond.instanceMethod ({ cls := "MovedSpanModel", name := "readAtom", desc := "(I)V" } : Jvm.MethodName)) ∈ lw_all := lw_g (lw_at lw_m7 139 rfl) rfl
theorem q1716 : (Jvm.Cond.code ({ cls := "MovedSpanModel", name := "readAtom", desc := "(I)V" } : Jvm.MethodName) prog_20_method_19_code (2 : Nat) (Option.none : Option Jvm.ClassFile.FieldType)) ∈ lw_all := lw_g (lw_at lw_m7 140 rfl) rfl
theorem q1717 : (Jvm.Cond.methodLink "MovedSpanModel" (167 : Nat) ({ cls := "MovedSpanModel", name := "wordOf", desc := "(I)I" } : Jvm.MethodName)) ∈ lw_all := lw_g (lw_at lw_m7 141 rfl) rfl
theorem q1718 : (Jvm.Cond.privateMethod ({ cls := "MovedSpanModel", name := "wordOf", desc := "(I)I" } : Jvm.MethodName)) ∈ lw_tbl := lw_at lw_m7 142 rfl
theorem q1719 : (Jvm.Cond.instanceMethod ({ cls := "MovedSpanModel", name := "wordOf", desc := "(I)I" } : Jvm.MethodName)) ∈ lw_all := lw_g (lw_at lw_m7 143 rfl) rfl
theorem q1720 : (Jvm.Cond.code ({ cls := "MovedSpanModel", name := "wordOf", desc := "(I)I" } : Jvm.MethodName) prog_20_method_16_code (2 : Nat) (Option.some Jvm.ClassFile.FieldType.int)) ∈ lw_all := lw_g (lw_at lw_m7 144 rfl) rfl
theorem q1721 : (Jvm.Cond.methodLink "MovedSpanModel" (222 : Nat) ({ cls := "MovedSpanModel", name := "doesErrands", desc := "()I" } : Jvm.MethodName)) ∈ lw_all := lw_g (lw_at lw_m7 145 rfl) rfl
theorem q1722 : (Jvm.Cond.privateMethod ({ cls := "MovedSpanModel", name := "doesErrands", desc := "()I" } : Jvm.MethodName)) ∈ lw_tbl := lw_at lw_m7 146 rfl
theorem q1723 : (Jvm.Cond.instanceMethod ({ cls := "MovedSpanModel", name := "doesErrands", desc := "()I" } : Jvm.MethodName)) ∈ lw_all := lw_g (lw_at lw_m7 147 rfl) rfl
theorem q1724 : (Jvm.Cond.code ({ cls := "MovedSpanModel", name := "doesErrands", desc := "()I" } : Jvm.MethodName) prog_20_method_50_code (3 : Nat) (Option.some Jvm.ClassFile.FieldType.int)) ∈ lw_all := lw_g (lw_at lw_m7 148 rfl) rfl
theorem q1725 : (Jvm.Cond.methodLink "MovedSpanModel" (260 : Nat) ({ cls := "MovedSpanModel", name := "isIn", desc := "(JI)Z" } : Jvm.MethodName)) ∈ lw_all := lw_g (lw_at lw_m7 149 rfl) rfl
theorem q1726 : (Jvm.Cond.static ({ cls := "MovedSpanModel", name := "isIn", desc := "(JI)Z" } : Jvm.MethodName)) ∈ lw_all := lw_g (lw_at lw_m7 150 rfl) rfl
theorem q1727 : (Jvm.Cond.code ({ cls := "MovedSpanModel", name := "isIn", desc := "(JI)Z" } : Jvm.MethodName) prog_20_method_15_code (3 : Nat) (Option.some Jvm.ClassFile.FieldType.boolean)) ∈ lw_all := lw_g (lw_at lw_m7 151 rfl) rfl
theorem q1729 : (Jvm.Cond.instanceMethod ({ cls := "MovedSpanModel", name := "fault", desc := "(I)I" } : Jvm.MethodName)) ∈ lw_all := lw_g (lw_at lw_m7 153 rfl) rfl
theorem q1730 : (Jvm.Cond.selects "MovedSpanModel" ({ cls := "MovedSpanModel", name := "fault", desc := "(I)I" } : Jvm.MethodName) ({ cls := "MovedSpanModel", name := "fault", desc := "(I)I" } : Jvm.MethodName)) ∈ lw_all := lw_g (lw_at lw_m7 154 rfl) rfl
theorem q1731 : (Jvm.Cond.code ({ cls := "MovedSpanModel", name := "fault", desc := "(I)I" } : Jvm.MethodName) prog_20_method_33_code (2 : Nat) (Option.some Jvm.ClassFile.FieldType.int)) ∈ lw_all := lw_g (lw_at lw_m7 155 rfl) rfl
theorem q1733 : (Jvm.Cond.instanceMethod ({ cls := "MovedSpanModel", name := "span", desc := "(I)I" } : Jvm.MethodName)) ∈ lw_all := lw_g (lw_at lw_m7 157 rfl) rfl
theorem q1734 : (Jvm.Cond.selects "MovedSpanModel" ({ cls := "MovedSpanModel", name := "span", desc := "(I)I" } : Jvm.MethodName) ({ cls := "MovedSpanModel", name := "span", desc := "(I)I" } : Jvm.MethodName)) ∈ lw_all := lw_g (lw_at lw_m7 158 rfl) rfl
theorem q1735 : (Jvm.Cond.code ({ cls := "MovedSpanModel", name := "span", desc := "(I)I" } : Jvm.MethodName) prog_20_method_44_code (2 : Nat) (Option.some Jvm.ClassFile.FieldType.int)) ∈ lw_all := lw_g (lw_at lw_m7 159 rfl) rfl
theorem q1736 : (Jvm.Cond.constantLong "MovedSpanModel" (258 : Nat) (999 : Int64)) ∈ lw_all := lw_g (lw_at lw_m7 160 rfl) rfl
theorem q1737 : (Jvm.Cond.methodLink "MovedSpanModel" (235 : Nat) ({ cls := "MovedSpanModel", name := "spanIn", desc := "(I)I" } : Jvm.MethodName)) ∈ lw_all := lw_g (lw_at lw_m7 161 rfl) rfl
theorem q1738 : (Jvm.Cond.privateMethod ({ cls := "MovedSpanModel", name := "spanIn", desc := "(I)I" } : Jvm.MethodName)) ∈ lw_tbl := lw_at lw_m7 162 rfl
theorem q1739 : (Jvm.Cond.instanceMethod ({ cls := "MovedSpanModel", name := "spanIn", desc := "(I)I" } : Jvm.MethodName)) ∈ lw_all := lw_g (lw_at lw_m7 163 rfl) rfl
theorem q1740 : (Jvm.Cond.code ({ cls := "MovedSpanModel", name := "spanIn", desc := "(I)I" } : Jvm.MethodName) prog_20_method_37_code (2 : Nat) (Option.some Jvm.ClassFile.FieldType.int)) ∈ lw_all := lw_g (lw_at lw_m7 164 rfl) rfl
theorem q1742 : (Jvm.Cond.instanceMethod ({ cls := "MovedSpanModel", name := "person", desc := "(II)I" } : Jvm.MethodName)) ∈ lw_all := lw_g (lw_at lw_m7 166 rfl) rfl
theorem q1743 : (Jvm.Cond.selects "MovedSpanModel" ({ cls := "MovedSpanModel", name := "person", desc := "(II)I" } : Jvm.MethodName) ({ cls := "MovedSpanModel", name := "person", desc := "(II)I" } : Jvm.MethodName)) ∈ lw_all := lw_g (lw_at lw_m7 167 rfl) rfl
theorem q1744 : (Jvm.Cond.code ({ cls := "MovedSpanModel", name := "person", desc := "(II)I" } : Jvm.MethodName) prog_20_method_45_code (3 : Nat) (Option.some Jvm.ClassFile.FieldType.int)) ∈ lw_all := lw_g (lw_at lw_m7 168 rfl) rfl
theorem q1745 : (Jvm.Cond.methodLink "MovedSpanModel" (245 : Nat) ({ cls := "MovedSpanModel", name := "isPerson", desc := "(J)Z" } : Jvm.MethodName)) ∈ lw_all := lw_g (lw_at lw_m7 169 rfl) rfl
theorem q1746 : (Jvm.Cond.privateMethod ({ cls := "MovedSpanModel", name := "isPerson", desc := "(J)Z" } : Jvm.MethodName)) ∈ lw_tbl := lw_at lw_m7 170 rfl
theorem q1747 : (Jvm.Cond.instanceMethod ({ cls := "MovedSpanModel", name := "isPerson", desc := "(J)Z" } : Jvm.MethodName)) ∈ lw_all := lw_g (lw_at lw_m7 171 rfl) rfl
theorem q1748 : (Jvm.Cond.code ({ cls := "MovedSpanModel", name := "isPerson", desc := "(J)Z" } : Jvm.MethodName) prog_20_method_34_code (3 : Nat) (Option.some Jvm.ClassFile.FieldType.boolean)) ∈ lw_all := lw_g (lw_at lw_m7 172 rfl) rfl
theorem q1750 : (Jvm.Cond.instanceMethod ({ cls := "MovedSpanModel", name := "why", desc := "(II)I" } : Jvm.MethodName)) ∈ lw_all := lw_g (lw_at lw_m7 174 rfl) rfl
theorem q1751 : (Jvm.Cond.selects "MovedSpanModel" ({ cls := "MovedSpanModel", name := "why", desc := "(II)I" } : Jvm.MethodName) ({ cls := "MovedSpanModel", name := "why", desc := "(II)I" } : Jvm.MethodName)) ∈ lw_all := lw_g (lw_at lw_m7 175 rfl) rfl
theorem q1752 : (Jvm.Cond.code ({ cls := "MovedSpanModel", name := "why", desc := "(II)I" } : Jvm.MethodName) prog_20_method_46_code (3 : Nat) (Option.some Jvm.ClassFile.FieldType.int)) ∈ lw_all := lw_g (lw_at lw_m7 176 rfl) rfl
theorem q1753 : (Jvm.Cond.methodLink "MovedSpanModel" (264 : Nat) ({ cls := "MovedSpanModel", name := "whyTold", desc := "(JJ)I" } : Jvm.MethodName)) ∈ lw_all := lw_g (lw_at lw_m7 177 rfl) rfl
theorem q1754 : (Jvm.Cond.privateMethod ({ cls := "MovedSpanModel", name := "whyTold", desc := "(JJ)I" } : Jvm.MethodName)) ∈ lw_tbl := lw_at lw_m7 178 rfl
theorem q1755 : (Jvm.Cond.instanceMethod ({ cls := "MovedSpanModel", name := "whyTold", desc := "(JJ)I" } : Jvm.MethodName)) ∈ lw_all := lw_g (lw_at lw_m7 179 rfl) rfl
theorem q1756 : (Jvm.Cond.code ({ cls := "MovedSpanModel", name := "whyTold", desc := "(JJ)I" } : Jvm.MethodName) prog_20_method_43_code (5 : Nat) (Option.some Jvm.ClassFile.FieldType.int)) ∈ lw_all := lw_g (lw_at lw_m7 180 rfl) rfl
theorem q1757 : (Jvm.Cond.constantLong "MovedSpanModel" (249 : Nat) (6 : Int64)) ∈ lw_all := lw_g (lw_at lw_m7 181 rfl) rfl
theorem q1758 : (Jvm.Cond.methodLink "MovedSpanModel" (251 : Nat) ({ cls := "MovedSpanModel", name := "fogIn", desc := "(I)I" } : Jvm.MethodName)) ∈ lw_all := lw_g (lw_at lw_m7 182 rfl) rfl
theorem q1759 : (Jvm.Cond.privateMethod ({ cls := "MovedSpanModel", name := "fogIn", desc := "(I)I" } : Jvm.MethodName)) ∈ lw_tbl := lw_at lw_m7 183 rfl
theorem q1760 : (Jvm.Cond.instanceMethod ({ cls := "MovedSpanModel", name := "fogIn", desc := "(I)I" } : Jvm.MethodName)) ∈ lw_all := lw_g (lw_at lw_m7 184 rfl) rfl
theorem q1761 : (Jvm.Cond.code ({ cls := "MovedSpanModel", name := "fogIn", desc := "(I)I" } : Jvm.MethodName) prog_20_method_38_code (2 : Nat) (Option.some Jvm.ClassFile.FieldType.int)) ∈ lw_all := lw_g (lw_at lw_m7 185 rfl) rfl
theorem q1762 : (Jvm.Cond.methodLink "MovedSpanModel" (254 : Nat) ({ cls := "MovedSpanModel", name := "whyAct", desc := "(IIIII)I" } : Jvm.MethodName)) ∈ lw_all := lw_g (lw_at lw_m7 186 rfl) rfl
theorem q1763 : (Jvm.Cond.privateMethod ({ cls := "MovedSpanModel", name := "whyAct", desc := "(IIIII)I" } : Jvm.MethodName)) ∈ lw_tbl := lw_at lw_m7 187 rfl
theorem q1764 : (Jvm.Cond.instanceMethod ({ cls := "MovedSpanModel", name := "whyAct", desc := "(IIIII)I" } : Jvm.MethodName)) ∈ lw_all := lw_g (lw_at lw_m7 188 rfl) rfl
theorem q1765 : (Jvm.Cond.code ({ cls := "MovedSpanModel", name := "whyAct", desc := "(IIIII)I" } : Jvm.MethodName) prog_20_method_42_code (8 : Nat) (Option.some Jvm.ClassFile.FieldType.int)) ∈ lw_all := lw_g (lw_at lw_m7 189 rfl) rfl
theorem q1766 : (Jvm.Cond.methodLink "MovedSpanModel" (238 : Nat) ({ cls := "MovedSpanModel", name := "leads", desc := "(III)I" } : Jvm.MethodName)) ∈ lw_all := lw_g (lw_at lw_m7 190 rfl) rfl
theorem q1767 : (Jvm.Cond.privateMethod ({ cls := "MovedSpanModel", name := "leads", desc := "(III)I" } : Jvm.MethodName)) ∈ lw_tbl := lw_at lw_m7 191 rfl
theorem q1768 : (Jvm.Cond.instanceMethod ({ cls := "MovedSpanModel", name := "leads", desc := "(III)I" } : Jvm.MethodName)) ∈ lw_all := lw_g (lw_at lw_m7 192 rfl) rfl
theorem q1769 : (Jvm.Cond.code ({ cls := "MovedSpanModel", name := "leads", desc := "(III)I" } : Jvm.MethodName) prog_20_method_41_code (4 : Nat) (Option.some Jvm.ClassFile.FieldType.int)) ∈ lw_all := lw_g (lw_at lw_m7 193 rfl) rfl
theorem q1770 : (Jvm.Cond.methodLink "MovedSpanModel" (241 : Nat) ({ cls := "MovedSpanModel", name := "lets", desc := "(IIIIII)Z" } : Jvm.MethodName)) ∈ lw_all := lw_g (lw_at lw_m7 194 rfl) rfl
theorem q1771 : (Jvm.Cond.privateMethod ({ cls := "MovedSpanModel", name := "lets", desc := "(IIIIII)Z" } : Jvm.MethodName)) ∈ lw_tbl := lw_at lw_m7 195 rfl
theorem q1772 : (Jvm.Cond.instanceMethod ({ cls := "MovedSpanModel", name := "lets", desc := "(IIIIII)Z" } : Jvm.MethodName)) ∈ lw_all := lw_g (lw_at lw_m7 196 rfl) rfl
theorem q1773 : (Jvm.Cond.code ({ cls := "MovedSpanModel", name := "lets", desc := "(IIIIII)Z" } : Jvm.MethodName) prog_20_method_40_code (10 : Nat) (Option.some Jvm.ClassFile.FieldType.boolean)) ∈ lw_all := lw_g (lw_at lw_m7 197 rfl) rfl
theorem q1774 : (Jvm.Cond.methodLink "MovedSpanModel" (231 : Nat) ({ cls := "MovedSpanModel", name := "between", desc := "(III)I" } : Jvm.MethodName)) ∈ lw_all := lw_g (lw_at lw_m7 198 rfl) rfl
theorem q1775 : (Jvm.Cond.static ({ cls := "MovedSpanModel", name := "between", desc := "(III)I" } : Jvm.MethodName)) ∈ lw_all := lw_g (lw_at lw_m7 199 rfl) rfl
theorem q1776 : (Jvm.Cond.code ({ cls := "MovedSpanModel", name := "between", desc := "(III)I" } : Jvm.MethodName) prog_20_method_39_code (5 : Nat) (Option.some Jvm.ClassFile.FieldType.int)) ∈ lw_all := lw_g (lw_at lw_m7 200 rfl) rfl
theorem q1777 : (Jvm.Cond.constantLong "MovedSpanModel" (227 : Nat) (1000000 : Int64)) ∈ lw_all := lw_g (lw_at lw_m7 201 rfl) rfl
theorem q1778 : (Jvm.Cond.constantLong "MovedSpanModel" (229 : Nat) (-1000000 : Int64)) ∈ lw_all := lw_g (lw_at lw_m7 202 rfl) rfl
theorem q1780 : (Jvm.Cond.instanceMethod ({ cls := "MovedSpanModel", name := "act", desc := "(II)I" } : Jvm.MethodName)) ∈ lw_all := lw_g (lw_at lw_m7 204 rfl) rfl
theorem q1781 : (Jvm.Cond.selects "MovedSpanModel" ({ cls := "MovedSpanModel", name := "act", desc := "(II)I" } : Jvm.MethodName) ({ cls := "MovedSpanModel", name := "act", desc := "(II)I" } : Jvm.MethodName)) ∈ lw_all := lw_g (lw_at lw_m7 205 rfl) rfl
theorem q1782 : (Jvm.Cond.code ({ cls := "MovedSpanModel", name := "act", desc := "(II)I" } : Jvm.MethodName) prog_20_method_52_code (4 : Nat) (Option.some Jvm.ClassFile.FieldType.int)) ∈ lw_all := lw_g (lw_at lw_m7 206 rfl) rfl
theorem q1783 : (Jvm.Cond.methodLink "MovedSpanModel" (268 : Nat) ({ cls := "MovedSpanModel", name := "keeps", desc := "()V" } : Jvm.MethodName)) ∈ lw_all := lw_g (lw_at lw_m7 207 rfl) rfl
theorem q1784 : (Jvm.Cond.privateMethod ({ cls := "MovedSpanModel", name := "keeps", desc := "()V" } : Jvm.MethodName)) ∈ lw_tbl := lw_at lw_m7 208 rfl
theorem q1785 : (Jvm.Cond.instanceMethod ({ cls := "MovedSpanModel", name := "keeps", desc := "()V" } : Jvm.MethodName)) ∈ lw_all := lw_g (lw_at lw_m7 209 rfl) rfl
theorem q1786 : (Jvm.Cond.code ({ cls := "MovedSpanModel", name := "keeps", desc := "()V" } : Jvm.MethodName) prog_20_method_47_code (2 : Nat) (Option.none : Option Jvm.ClassFile.FieldType)) ∈ lw_all := lw_g (lw_at lw_m7 210 rfl) rfl
theorem q1787 : (Jvm.Cond.methodLink "MovedSpanModel" (271 : Nat) ({ cls := "MovedSpanModel", name := "notes", desc := "()V" } : Jvm.MethodName)) ∈ lw_all := lw_g (lw_at lw_m7 211 rfl) rfl
theorem q1788 : (Jvm.Cond.privateMethod ({ cls := "MovedSpanModel", name := "notes", desc := "()V" } : Jvm.MethodName)) ∈ lw_tbl := lw_at lw_m7 212 rfl
theorem q1789 : (Jvm.Cond.instanceMethod ({ cls := "MovedSpanModel", name := "notes", desc := "()V" } : Jvm.MethodName)) ∈ lw_all := lw_g (lw_at lw_m7 213 rfl) rfl
theorem q1790 : (Jvm.Cond.code ({ cls := "MovedSpanModel", name := "notes", desc := "()V" } : Jvm.MethodName) prog_20_method_49_code (2 : Nat) (Option.none : Option Jvm.ClassFile.FieldType)) ∈ lw_all := lw_g (lw_at lw_m7 214 rfl) rfl
theorem q1792 : (Jvm.Cond.instanceMethod ({ cls := "MovedSpanModel", name := "tell", desc := "(II)I" } : Jvm.MethodName)) ∈ lw_all := lw_g (lw_at lw_m7 216 rfl) rfl
theorem q1793 : (Jvm.Cond.selects "MovedSpanModel" ({ cls := "MovedSpanModel", name := "tell", desc := "(II)I" } : Jvm.MethodName) ({ cls := "MovedSpanModel", name := "tell", desc := "(II)I" } : Jvm.MethodName)) ∈ lw_all := lw_g (lw_at lw_m7 217 rfl) rfl
theorem q1794 : (Jvm.Cond.code ({ cls := "MovedSpanModel", name := "tell", desc := "(II)I" } : Jvm.MethodName) prog_20_method_53_code (3 : Nat) (Option.some Jvm.ClassFile.FieldType.int)) ∈ lw_all := lw_g (lw_at lw_m7 218 rfl) rfl
theorem q1795 : (Jvm.Cond.constantLong "MovedSpanModel" (274 : Nat) (-1 : Int64)) ∈ lw_all := lw_g (lw_at lw_m7 219 rfl) rfl
theorem q1797 : (Jvm.Cond.instanceMethod ({ cls := "MovedSpanModel", name := "fog", desc := "(I)I" } : Jvm.MethodName)) ∈ lw_all := lw_g (lw_at lw_m7 221 rfl) rfl
theorem q1798 : (Jvm.Cond.selects "MovedSpanModel" ({ cls := "MovedSpanModel", name := "fog", desc := "(I)I" } : Jvm.MethodName) ({ cls := "MovedSpanModel", name := "fog", desc := "(I)I" } : Jvm.MethodName)) ∈ lw_all := lw_g (lw_at lw_m7 222 rfl) rfl
theorem q1799 : (Jvm.Cond.code ({ cls := "MovedSpanModel", name := "fog", desc := "(I)I" } : Jvm.MethodName) prog_20_method_54_code (2 : Nat) (Option.some Jvm.ClassFile.FieldType.int)) ∈ lw_all := lw_g (lw_at lw_m7 223 rfl) rfl
theorem q1800 : (Jvm.Cond.constantLong "MovedSpanModel" (276 : Nat) (99 : Int64)) ∈ lw_all := lw_g (lw_at lw_m7 224 rfl) rfl
theorem q1802 : (Jvm.Cond.instanceMethod ({ cls := "MovedSpanModel", name := "hours", desc := "(I)I" } : Jvm.MethodName)) ∈ lw_all := lw_g (lw_at lw_m7 226 rfl) rfl
theorem q1803 : (Jvm.Cond.selects "MovedSpanModel" ({ cls := "MovedSpanModel", name := "hours", desc := "(I)I" } : Jvm.MethodName) ({ cls := "MovedSpanModel", name := "hours", desc := "(I)I" } : Jvm.MethodName)) ∈ lw_all := lw_g (lw_at lw_m7 227 rfl) rfl
theorem q1804 : (Jvm.Cond.code ({ cls := "MovedSpanModel", name := "hours", desc := "(I)I" } : Jvm.MethodName) prog_20_method_55_code (4 : Nat) (Option.some Jvm.ClassFile.FieldType.int)) ∈ lw_all := lw_g (lw_at lw_m7 228 rfl) rfl
theorem q1805 : (Jvm.Cond.constantLong "MovedSpanModel" (278 : Nat) (48 : Int64)) ∈ lw_all := lw_g (lw_at lw_m7 229 rfl) rfl
theorem q1806 : (Jvm.Cond.methodLink "MovedSpanModel" (280 : Nat) ({ cls := "MovedSpanModel", name := "goesHour", desc := "()I" } : Jvm.MethodName)) ∈ lw_all := lw_g (lw_at lw_m7 230 rfl) rfl
theorem q1807 : (Jvm.Cond.privateMethod ({ cls := "MovedSpanModel", name := "goesHour", desc := "()I" } : Jvm.MethodName)) ∈ lw_tbl := lw_at lw_m7 231 rfl
theorem q1808 : (Jvm.Cond.instanceMethod ({ cls := "MovedSpanModel", name := "goesHour", desc := "()I" } : Jvm.MethodName)) ∈ lw_all := lw_g (lw_at lw_m7 232 rfl) rfl
theorem q1809 : (Jvm.Cond.code ({ cls := "MovedSpanModel", name := "goesHour", desc := "()I" } : Jvm.MethodName) prog_20_method_51_code (3 : Nat) (Option.some Jvm.ClassFile.FieldType.int)) ∈ lw_all := lw_g (lw_at lw_m7 233 rfl) rfl
theorem q1811 : (Jvm.Cond.instanceMethod ({ cls := "MovedSpanModel", name := "undo", desc := "(I)I" } : Jvm.MethodName)) ∈ lw_all := lw_g (lw_at lw_m7 235 rfl) rfl
theorem q1812 : (Jvm.Cond.selects "MovedSpanModel" ({ cls := "MovedSpanModel", name := "undo", desc := "(I)I" } : Jvm.MethodName) ({ cls := "MovedSpanModel", name := "undo", desc := "(I)I" } : Jvm.MethodName)) ∈ lw_all := lw_g (lw_at lw_m7 236 rfl) rfl
theorem q1813 : (Jvm.Cond.code ({ cls := "MovedSpanModel", name := "undo", desc := "(I)I" } : Jvm.MethodName) prog_20_method_56_code (3 : Nat) (Option.some Jvm.ClassFile.FieldType.int)) ∈ lw_all := lw_g (lw_at lw_m7 237 rfl) rfl
theorem q1814 : (Jvm.Cond.constantLong "MovedSpanModel" (283 : Nat) (10 : Int64)) ∈ lw_all := lw_g (lw_at lw_m7 238 rfl) rfl
theorem q1816 : (Jvm.Cond.instanceMethod ({ cls := "MovedSpanModel", name := "judge", desc := "(II)I" } : Jvm.MethodName)) ∈ lw_all := lw_g (lw_at lw_m8 0 rfl) rfl
theorem q1817 : (Jvm.Cond.selects "MovedSpanModel" ({ cls := "MovedSpanModel", name := "judge", desc := "(II)I" } : Jvm.MethodName) ({ cls := "MovedSpanModel", name := "judge", desc := "(II)I" } : Jvm.MethodName)) ∈ lw_all := lw_g (lw_at lw_m8 1 rfl) rfl
theorem q1818 : (Jvm.Cond.code ({ cls := "MovedSpanModel", name := "judge", desc := "(II)I" } : Jvm.MethodName) prog_20_method_61_code (7 : Nat) (Option.some Jvm.ClassFile.FieldType.int)) ∈ lw_all := lw_g (lw_at lw_m8 2 rfl) rfl
theorem q1819 : (Jvm.Cond.constantLong "MovedSpanModel" (307 : Nat) (3 : Int64)) ∈ lw_all := lw_g (lw_at lw_m8 3 rfl) rfl
theorem q1820 : (Jvm.Cond.methodLink "MovedSpanModel" (309 : Nat) ({ cls := "MovedSpanModel", name := "noTray", desc := "(I)I" } : Jvm.MethodName)) ∈ lw_all := lw_g (lw_at lw_m8 4 rfl) rfl
theorem q1821 : (Jvm.Cond.privateMethod ({ cls := "MovedSpanModel", name := "noTray", desc := "(I)I" } : Jvm.MethodName)) ∈ lw_tbl := lw_at lw_m8 5 rfl
theorem q1822 : (Jvm.Cond.instanceMethod ({ cls := "MovedSpanModel", name := "noTray", desc := "(I)I" } : Jvm.MethodName)) ∈ lw_all := lw_g (lw_at lw_m8 6 rfl) rfl
theorem q1823 : (Jvm.Cond.code ({ cls := "MovedSpanModel", name := "noTray", desc := "(I)I" } : Jvm.MethodName) prog_20_method_60_code (2 : Nat) (Option.some Jvm.ClassFile.FieldType.int)) ∈ lw_all := lw_g (lw_at lw_m8 7 rfl) rfl
theorem q1824 : (Jvm.Cond.methodLink "MovedSpanModel" (312 : Nat) ({ cls := "MovedSpanModel", name := "tells", desc := "(I)I" } : Jvm.MethodName)) ∈ lw_all := lw_g (lw_at lw_m8 8 rfl) rfl
theorem q1825 : (Jvm.Cond.privateMethod ({ cls := "MovedSpanModel", name := "tells", desc := "(I)I" } : Jvm.MethodName)) ∈ lw_tbl := lw_at lw_m8 9 rfl
theorem q1826 : (Jvm.Cond.instanceMethod ({ cls := "MovedSpanModel", name := "tells", desc := "(I)I" } : Jvm.MethodName)) ∈ lw_all := lw_g (lw_at lw_m8 10 rfl) rfl
theorem q1827 : (Jvm.Cond.code ({ cls := "MovedSpanModel", name := "tells", desc := "(I)I" } : Jvm.MethodName) prog_20_method_59_code (3 : Nat) (Option.some Jvm.ClassFile.FieldType.int)) ∈ lw_all := lw_g (lw_at lw_m8 11 rfl) rfl
theorem q1828 : (Jvm.Cond.methodLink "MovedSpanModel" (300 : Nat) ({ cls := "MovedSpanModel", name := "whyNot", desc := "(J)I" } : Jvm.MethodName)) ∈ lw_all := lw_g (lw_at lw_m8 12 rfl) rfl
theorem q1829 : (Jvm.Cond.privateMethod ({ cls := "MovedSpanModel", name := "whyNot", desc := "(J)I" } : Jvm.MethodName)) ∈ lw_tbl := lw_at lw_m8 13 rfl
theorem q1830 : (Jvm.Cond.instanceMethod ({ cls := "MovedSpanModel", name := "whyNot", desc := "(J)I" } : Jvm.MethodName)) ∈ lw_all := lw_g (lw_at lw_m8 14 rfl) rfl
theorem q1831 : (Jvm.Cond.code ({ cls := "MovedSpanModel", name := "whyNot", desc := "(J)I" } : Jvm.MethodName) prog_20_method_57_code (3 : Nat) (Option.some Jvm.ClassFile.FieldType.int)) ∈ lw_all := lw_g (lw_at lw_m8 15 rfl) rfl
theorem q1832 : (Jvm.Cond.constantLong "MovedSpanModel" (285 : Nat) (200 : Int64)) ∈ lw_all := lw_g (lw_at lw_m8 16 rfl) rfl
theorem q1833 : (Jvm.Cond.constantLong "MovedSpanModel" (287 : Nat) (209 : Int64)) ∈ lw_all := lw_g (lw_at lw_m8 17 rfl) rfl
theorem q1834 : (Jvm.Cond.constantLong "MovedSpanModel" (289 : Nat) (49 : Int64)) ∈ lw_all := lw_g (lw_at lw_m8 18 rfl) rfl
theorem q1835 : (Jvm.Cond.constantLong "MovedSpanModel" (291 : Nat) (100 : Int64)) ∈ lw_all := lw_g (lw_at lw_m8 19 rfl) rfl
theorem q1836 : (Jvm.Cond.constantLong "MovedSpanModel" (293 : Nat) (159 : Int64)) ∈ lw_all := lw_g (lw_at lw_m8 20 rfl) rfl
theorem q1837 : (Jvm.Cond.constantLong "MovedSpanModel" (295 : Nat) (9 : Int64)) ∈ lw_all := lw_g (lw_at lw_m8 21 rfl) rfl
theorem q1838 : (Jvm.Cond.methodLink "MovedSpanModel" (304 : Nat) ({ cls := "MovedSpanModel", name := "does", desc := "(I)V" } : Jvm.MethodName)) ∈ lw_all := lw_g (lw_at lw_m8 22 rfl) rfl
theorem q1839 : (Jvm.Cond.privateMethod ({ cls := "MovedSpanModel", name := "does", desc := "(I)V" } : Jvm.MethodName)) ∈ lw_tbl := lw_at lw_m8 23 rfl
theorem q1840 : (Jvm.Cond.instanceMethod ({ cls := "MovedSpanModel", name := "does", desc := "(I)V" } : Jvm.MethodName)) ∈ lw_all := lw_g (lw_at lw_m8 24 rfl) rfl
theorem q1841 : (Jvm.Cond.code ({ cls := "MovedSpanModel", name := "does", desc := "(I)V" } : Jvm.MethodName) prog_20_method_58_code (2 : Nat) (Option.none : Option Jvm.ClassFile.FieldType)) ∈ lw_all := lw_g (lw_at lw_m8 25 rfl) rfl
theorem q1842 : (Jvm.Cond.methodLink "MovedSpanModel" (315 : Nat) ({ cls := "MovedSpanModel", name := "isAgain", desc := "()V" } : Jvm.MethodName)) ∈ lw_all := lw_g (lw_at lw_m8 26 rfl) rfl
theorem q1843 : (Jvm.Cond.privateMethod ({ cls := "MovedSpanModel", name := "isAgain", desc := "()V" } : Jvm.MethodName)) ∈ lw_tbl := lw_at lw_m8 27 rfl
theorem q1844 : (Jvm.Cond.instanceMethod ({ cls := "MovedSpanModel", name := "isAgain", desc := "()V" } : Jvm.MethodName)) ∈ lw_all := lw_g (lw_at lw_m8 28 rfl) rfl
theorem q1845 : (Jvm.Cond.code ({ cls := "MovedSpanModel", name := "isAgain", desc := "()V" } : Jvm.MethodName) prog_20_method_48_code (2 : Nat) (Option.none : Option Jvm.ClassFile.FieldType)) ∈ lw_all := lw_g (lw_at lw_m8 29 rfl) rfl
theorem q1847 : (Jvm.Cond.instanceMethod ({ cls := "MovedSpanModel", name := "perform", desc := "(I)I" } : Jvm.MethodName)) ∈ lw_all := lw_g (lw_at lw_m8 31 rfl) rfl
theorem q1848 : (Jvm.Cond.selects "MovedSpanModel" ({ cls := "MovedSpanModel", name := "perform", desc := "(I)I" } : Jvm.MethodName) ({ cls := "MovedSpanModel", name := "perform", desc := "(I)I" } : Jvm.MethodName)) ∈ lw_all := lw_g (lw_at lw_m8 32 rfl) rfl
theorem q1849 : (Jvm.Cond.code ({ cls := "MovedSpanModel", name := "perform", desc := "(I)I" } : Jvm.MethodName) prog_20_method_62_code (4 : Nat) (Option.some Jvm.ClassFile.FieldType.int)) ∈ lw_all := lw_g (lw_at lw_m8 33 rfl) rfl
theorem q1851 : (Jvm.Cond.instanceMethod ({ cls := "MovedSpanModel", name := "year", desc := "(II)I" } : Jvm.MethodName)) ∈ lw_all := lw_g (lw_at lw_m8 35 rfl) rfl
theorem q1852 : (Jvm.Cond.selects "MovedSpanModel" ({ cls := "MovedSpanModel", name := "year", desc := "(II)I" } : Jvm.MethodName) ({ cls := "MovedSpanModel", name := "year", desc := "(II)I" } : Jvm.MethodName)) ∈ lw_all := lw_g (lw_at lw_m8 36 rfl) rfl
theorem q1853 : (Jvm.Cond.code ({ cls := "MovedSpanModel", name := "year", desc := "(II)I" } : Jvm.MethodName) prog_20_method_65_code (6 : Nat) (Option.some Jvm.ClassFile.FieldType.int)) ∈ lw_all := lw_g (lw_at lw_m8 37 rfl) rfl
theorem q1854 : (Jvm.Cond.constantLong "MovedSpanModel" (325 : Nat) (40 : Int64)) ∈ lw_all := lw_g (lw_at lw_m8 38 rfl) rfl
theorem q1855 : (Jvm.Cond.methodLink "MovedSpanModel" (327 : Nat) ({ cls := "MovedSpanModel", name := "drawn", desc := "()I" } : Jvm.MethodName)) ∈ lw_all := lw_g (lw_at lw_m8 39 rfl) rfl
theorem q1856 : (Jvm.Cond.privateMethod ({ cls := "MovedSpanModel", name := "drawn", desc := "()I" } : Jvm.MethodName)) ∈ lw_tbl := lw_at lw_m8 40 rfl
theorem q1857 : (Jvm.Cond.instanceMethod ({ cls := "MovedSpanModel", name := "drawn", desc := "()I" } : Jvm.MethodName)) ∈ lw_all := lw_g (lw_at lw_m8 41 rfl) rfl
theorem q1858 : (Jvm.Cond.code ({ cls := "MovedSpanModel", name := "drawn", desc := "()I" } : Jvm.MethodName) prog_20_method_64_code (3 : Nat) (Option.some Jvm.ClassFile.FieldType.int)) ∈ lw_all := lw_g (lw_at lw_m8 42 rfl) rfl
theorem q1859 : (Jvm.Cond.methodLink "MovedSpanModel" (322 : Nat) ({ cls := "MovedSpanModel", name := "draw", desc := "(I)I" } : Jvm.MethodName)) ∈ lw_all := lw_g (lw_at lw_m8 43 rfl) rfl
theorem q1860 : (Jvm.Cond.privateMethod ({ cls := "MovedSpanModel", name := "draw", desc := "(I)I" } : Jvm.MethodName)) ∈ lw_tbl := lw_at lw_m8 44 rfl
theorem q1861 : (Jvm.Cond.instanceMethod ({ cls := "MovedSpanModel", name := "draw", desc := "(I)I" } : Jvm.MethodName)) ∈ lw_all := lw_g (lw_at lw_m8 45 rfl) rfl
theorem q1862 : (Jvm.Cond.code ({ cls := "MovedSpanModel", name := "draw", desc := "(I)I" } : Jvm.MethodName) prog_20_method_63_code (2 : Nat) (Option.some Jvm.ClassFile.FieldType.int)) ∈ lw_all := lw_g (lw_at lw_m8 46 rfl) rfl
theorem q1863 : (Jvm.Cond.constant "MovedSpanModel" (318 : Nat) (1103515245 : Int32)) ∈ lw_all := lw_g (lw_at lw_m8 47 rfl) rfl
theorem q1865 : (Jvm.Cond.instanceMethod ({ cls := "MovedSpanModel", name := "soonest", desc := "(II)I" } : Jvm.MethodName)) ∈ lw_all := lw_g (lw_at lw_m8 49 rfl) rfl
theorem q1866 : (Jvm.Cond.selects "MovedSpanModel" ({ cls := "MovedSpanModel", name := "soonest", desc := "(II)I" } : Jvm.MethodName) ({ cls := "MovedSpanModel", name := "soonest", desc := "(II)I" } : Jvm.MethodName)) ∈ lw_all := lw_g (lw_at lw_m8 50 rfl) rfl
theorem q1867 : (Jvm.Cond.code ({ cls := "MovedSpanModel", name := "soonest", desc := "(II)I" } : Jvm.MethodName) prog_20_method_70_code (3 : Nat) (Option.some Jvm.ClassFile.FieldType.int)) ∈ lw_all := lw_g (lw_at lw_m8 51 rfl) rfl
theorem q1868 : (Jvm.Cond.methodLink "MovedSpanModel" (339 : Nat) ({ cls := "MovedSpanModel", name := "isSpot", desc := "(J)Z" } : Jvm.MethodName)) ∈ lw_all := lw_g (lw_at lw_m8 52 rfl) rfl
theorem q1869 : (Jvm.Cond.privateMethod ({ cls := "MovedSpanModel", name := "isSpot", desc := "(J)Z" } : Jvm.MethodName)) ∈ lw_tbl := lw_at lw_m8 53 rfl
theorem q1870 : (Jvm.Cond.instanceMethod ({ cls := "MovedSpanModel", name := "isSpot", desc := "(J)Z" } : Jvm.MethodName)) ∈ lw_all := lw_g (lw_at lw_m8 54 rfl) rfl
theorem q1871 : (Jvm.Cond.code ({ cls := "MovedSpanModel", name := "isSpot", desc := "(J)Z" } : Jvm.MethodName) prog_20_method_35_code (3 : Nat) (Option.some Jvm.ClassFile.FieldType.boolean)) ∈ lw_all := lw_g (lw_at lw_m8 55 rfl) rfl
theorem q1872 : (Jvm.Cond.constantLong "MovedSpanModel" (225 : Nat) (8 : Int64)) ∈ lw_all := lw_g (lw_at lw_m8 56 rfl) rfl
theorem q1873 : (Jvm.Cond.methodLink "MovedSpanModel" (342 : Nat) ({ cls := "MovedSpanModel", name := "soonestOf", desc := "(II)I" } : Jvm.MethodName)) ∈ lw_all := lw_g (lw_at lw_m8 57 rfl) rfl
theorem q1874 : (Jvm.Cond.privateMethod ({ cls := "MovedSpanModel", name := "soonestOf", desc := "(II)I" } : Jvm.MethodName)) ∈ lw_tbl := lw_at lw_m8 58 rfl
theorem q1875 : (Jvm.Cond.instanceMethod ({ cls := "MovedSpanModel", name := "soonestOf", desc := "(II)I" } : Jvm.MethodName)) ∈ lw_all := lw_g (lw_at lw_m8 59 rfl) rfl
theorem q1876 : (Jvm.Cond.code ({ cls := "MovedSpanModel", name := "soonestOf", desc := "(II)I" } : Jvm.MethodName) prog_20_method_69_code (3 : Nat) (Option.some Jvm.ClassFile.FieldType.int)) ∈ lw_all := lw_g (lw_at lw_m8 60 rfl) rfl
theorem q1877 : (Jvm.Cond.methodLink "MovedSpanModel" (333 : Nat) ({ cls := "MovedSpanModel", name := "laysLets", desc := "(I)V" } : Jvm.MethodName)) ∈ lw_all := lw_g (lw_at lw_m8 61 rfl) rfl
theorem q1878 : (Jvm.Cond.privateMethod ({ cls := "MovedSpanModel", name := "laysLets", desc := "(I)V" } : Jvm.MethodName)) ∈ lw_tbl := lw_at lw_m8 62 rfl
theorem q1879 : (Jvm.Cond.instanceMethod ({ cls := "MovedSpanModel", name := "laysLets", desc := "(I)V" } : Jvm.MethodName)) ∈ lw_all := lw_g (lw_at lw_m8 63 rfl) rfl
theorem q1880 : (Jvm.Cond.code ({ cls := "MovedSpanModel", name := "laysLets", desc := "(I)V" } : Jvm.MethodName) prog_20_method_66_code (6 : Nat) (Option.none : Option Jvm.ClassFile.FieldType)) ∈ lw_all := lw_g (lw_at lw_m8 64 rfl) rfl
theorem q1881 : (Jvm.Cond.methodLink "MovedSpanModel" (336 : Nat) ({ cls := "MovedSpanModel", name := "hoursTo", desc := "(III)I" } : Jvm.MethodName)) ∈ lw_all := lw_g (lw_at lw_m8 65 rfl) rfl
theorem q1882 : (Jvm.Cond.privateMethod ({ cls := "MovedSpanModel", name := "hoursTo", desc := "(III)I" } : Jvm.MethodName)) ∈ lw_tbl := lw_at lw_m8 66 rfl
theorem q1883 : (Jvm.Cond.instanceMethod ({ cls := "MovedSpanModel", name := "hoursTo", desc := "(III)I" } : Jvm.MethodName)) ∈ lw_all := lw_g (lw_at lw_m8 67 rfl) rfl
theorem q1884 : (Jvm.Cond.code ({ cls := "MovedSpanModel", name := "hoursTo", desc := "(III)I" } : Jvm.MethodName) prog_20_method_68_code (6 : Nat) (Option.some Jvm.ClassFile.FieldType.int)) ∈ lw_all := lw_g (lw_at lw_m8 68 rfl) rfl
theorem q1885 : (Jvm.Cond.methodLink "MovedSpanModel" (330 : Nat) ({ cls := "MovedSpanModel", name := "goesOn", desc := "(III)I" } : Jvm.MethodName)) ∈ lw_all := lw_g (lw_at lw_m8 69 rfl) rfl
theorem q1886 : (Jvm.Cond.privateMethod ({ cls := "MovedSpanModel", name := "goesOn", desc := "(III)I" } : Jvm.MethodName)) ∈ lw_tbl := lw_at lw_m8 70 rfl
theorem q1887 : (Jvm.Cond.instanceMethod ({ cls := "MovedSpanModel", name := "goesOn", desc := "(III)I" } : Jvm.MethodName)) ∈ lw_all := lw_g (lw_at lw_m8 71 rfl) rfl
theorem q1888 : (Jvm.Cond.code ({ cls := "MovedSpanModel", name := "goesOn", desc := "(III)I" } : Jvm.MethodName) prog_20_method_67_code (9 : Nat) (Option.some Jvm.ClassFile.FieldType.int)) ∈ lw_all := lw_g (lw_at lw_m8 72 rfl) rfl
theorem q1890 : (Jvm.Cond.instanceMethod ({ cls := "MovedSpanModel", name := "way", desc := "(III)I" } : Jvm.MethodName)) ∈ lw_all := lw_g (lw_at lw_m8 74 rfl) rfl
theorem q1891 : (Jvm.Cond.selects "MovedSpanModel" ({ cls := "MovedSpanModel", name := "way", desc := "(III)I" } : Jvm.MethodName) ({ cls := "MovedSpanModel", name := "way", desc := "(III)I" } : Jvm.MethodName)) ∈ lw_all := lw_g (lw_at lw_m8 75 rfl) rfl
theorem q1892 : (Jvm.Cond.code ({ cls := "MovedSpanModel", name := "way", desc := "(III)I" } : Jvm.MethodName) prog_20_method_72_code (5 : Nat) (Option.some Jvm.ClassFile.FieldType.int)) ∈ lw_all := lw_g (lw_at lw_m8 76 rfl) rfl
theorem q1893 : (Jvm.Cond.methodLink "MovedSpanModel" (345 : Nat) ({ cls := "MovedSpanModel", name := "laysWay", desc := "(II)I" } : Jvm.MethodName)) ∈ lw_all := lw_g (lw_at lw_m8 77 rfl) rfl
theorem q1894 : (Jvm.Cond.privateMethod ({ cls := "MovedSpanModel", name := "laysWay", desc := "(II)I" } : Jvm.MethodName)) ∈ lw_tbl := lw_at lw_m8 78 rfl
theorem q1895 : (Jvm.Cond.instanceMethod ({ cls := "MovedSpanModel", name := "laysWay", desc := "(II)I" } : Jvm.MethodName)) ∈ lw_all := lw_g (lw_at lw_m8 79 rfl) rfl
theorem q1896 : (Jvm.Cond.code ({ cls := "MovedSpanModel", name := "laysWay", desc := "(II)I" } : Jvm.MethodName) prog_20_method_71_code (7 : Nat) (Option.some Jvm.ClassFile.FieldType.int)) ∈ lw_all := lw_g (lw_at lw_m8 80 rfl) rfl
theorem q1898 : (Jvm.Cond.instanceMethod ({ cls := "MovedSpanModel", name := "ways", desc := "(III)J" } : Jvm.MethodName)) ∈ lw_all := lw_g (lw_at lw_m8 82 rfl) rfl
theorem q1899 : (Jvm.Cond.selects "MovedSpanModel" ({ cls := "MovedSpanModel", name := "ways", desc := "(III)J" } : Jvm.MethodName) ({ cls := "MovedSpanModel", name := "ways", desc := "(III)J" } : Jvm.MethodName)) ∈ lw_all := lw_g (lw_at lw_m8 83 rfl) rfl
theorem q1900 : (Jvm.Cond.code ({ cls := "MovedSpanModel", name := "ways", desc := "(III)J" } : Jvm.MethodName) prog_20_method_73_code (7 : Nat) (Option.some Jvm.ClassFile.FieldType.long)) ∈ lw_all := lw_g (lw_at lw_m8 84 rfl) rfl
theorem q1901 : (Jvm.Cond.constantLong "MovedSpanModel" (348 : Nat) (-2 : Int64)) ∈ lw_all := lw_g (lw_at lw_m8 85 rfl) rfl
theorem q1902 : (Jvm.Cond.constantLong "MovedSpanModel" (350 : Nat) (12 : Int64)) ∈ lw_all := lw_g (lw_at lw_m8 86 rfl) rfl
theorem q1903 : (Jvm.Cond.constantLong "MovedSpanModel" (352 : Nat) (-3 : Int64)) ∈ lw_all := lw_g (lw_at lw_m8 87 rfl) rfl
theorem q1905 : (Jvm.Cond.instanceMethod ({ cls := "MovedSpanModel", name := "reach", desc := "(II)I" } : Jvm.MethodName)) ∈ lw_all := lw_g (lw_at lw_m8 89 rfl) rfl
theorem q1906 : (Jvm.Cond.selects "MovedSpanModel" ({ cls := "MovedSpanModel", name := "reach", desc := "(II)I" } : Jvm.MethodName) ({ cls := "MovedSpanModel", name := "reach", desc := "(II)I" } : Jvm.MethodName)) ∈ lw_all := lw_g (lw_at lw_m8 90 rfl) rfl
theorem q1907 : (Jvm.Cond.code ({ cls := "MovedSpanModel", name := "reach", desc := "(II)I" } : Jvm.MethodName) prog_20_method_75_code (3 : Nat) (Option.some Jvm.ClassFile.FieldType.int)) ∈ lw_all := lw_g (lw_at lw_m8 91 rfl) rfl
theorem q1908 : (Jvm.Cond.constantLong "MovedSpanModel" (354 : Nat) (60 : Int64)) ∈ lw_all := lw_g (lw_at lw_m8 92 rfl) rfl
theorem q1909 : (Jvm.Cond.methodLink "MovedSpanModel" (356 : Nat) ({ cls := "MovedSpanModel", name := "reachOf", desc := "(II)I" } : Jvm.MethodName)) ∈ lw_all := lw_g (lw_at lw_m8 93 rfl) rfl
theorem q1910 : (Jvm.Cond.privateMethod ({ cls := "MovedSpanModel", name := "reachOf", desc := "(II)I" } : Jvm.MethodName)) ∈ lw_tbl := lw_at lw_m8 94 rfl
theorem q1911 : (Jvm.Cond.instanceMethod ({ cls := "MovedSpanModel", name := "reachOf", desc := "(II)I" } : Jvm.MethodName)) ∈ lw_all := lw_g (lw_at lw_m8 95 rfl) rfl
theorem q1912 : (Jvm.Cond.code ({ cls := "MovedSpanModel", name := "reachOf", desc := "(II)I" } : Jvm.MethodName) prog_20_method_74_code (5 : Nat) (Option.some Jvm.ClassFile.FieldType.int)) ∈ lw_all := lw_g (lw_at lw_m8 96 rfl) rfl
theorem q1914 : (Jvm.Cond.instanceMethod ({ cls := "MovedSpanModel", name := "meet", desc := "(II)I" } : Jvm.MethodName)) ∈ lw_all := lw_g (lw_at lw_m8 98 rfl) rfl
theorem q1915 : (Jvm.Cond.selects "MovedSpanModel" ({ cls := "MovedSpanModel", name := "meet", desc := "(II)I" } : Jvm.MethodName) ({ cls := "MovedSpanModel", name := "meet", desc := "(II)I" } : Jvm.MethodName)) ∈ lw_all := lw_g (lw_at lw_m8 99 rfl) rfl
theorem q1916 : (Jvm.Cond.code ({ cls := "MovedSpanModel", name := "meet", desc := "(II)I" } : Jvm.MethodName) prog_20_method_77_code (3 : Nat) (Option.some Jvm.ClassFile.FieldType.int)) ∈ lw_all := lw_g (lw_at lw_m8 100 rfl) rfl
theorem q1917 : (Jvm.Cond.methodLink "MovedSpanModel" (359 : Nat) ({ cls := "MovedSpanModel", name := "meetIn", desc := "(II)I" } : Jvm.MethodName)) ∈ lw_all := lw_g (lw_at lw_m8 101 rfl) rfl
theorem q1918 : (Jvm.Cond.privateMethod ({ cls := "MovedSpanModel", name := "meetIn", desc := "(II)I" } : Jvm.MethodName)) ∈ lw_tbl := lw_at lw_m8 102 rfl
theorem q1919 : (Jvm.Cond.instanceMethod ({ cls := "MovedSpanModel", name := "meetIn", desc := "(II)I" } : Jvm.MethodName)) ∈ lw_all := lw_g (lw_at lw_m8 103 rfl) rfl
theorem q1920 : (Jvm.Cond.code ({ cls := "MovedSpanModel", name := "meetIn", desc := "(II)I" } : Jvm.MethodName) prog_20_method_76_code (4 : Nat) (Option.some Jvm.ClassFile.FieldType.int)) ∈ lw_all := lw_g (lw_at lw_m8 104 rfl) rfl
theorem q1922 : (Jvm.Cond.instanceMethod ({ cls := "MovedSpanModel", name := "meetAt", desc := "(II)I" } : Jvm.MethodName)) ∈ lw_all := lw_g (lw_at lw_m8 106 rfl) rfl
theorem q1923 : (Jvm.Cond.selects "MovedSpanModel" ({ cls := "MovedSpanModel", name := "meetAt", desc := "(II)I" } : Jvm.MethodName) ({ cls := "MovedSpanModel", name := "meetAt", desc := "(II)I" } : Jvm.MethodName)) ∈ lw_all := lw_g (lw_at lw_m8 107 rfl) rfl
theorem q1924 : (Jvm.Cond.code ({ cls := "MovedSpanModel", name := "meetAt", desc := "(II)I" } : Jvm.MethodName) prog_20_method_78_code (6 : Nat) (Option.some Jvm.ClassFile.FieldType.int)) ∈ lw_all := lw_g (lw_at lw_m8 108 rfl) rfl
theorem q1926 : (Jvm.Cond.instanceMethod ({ cls := "MovedSpanModel", name := "inTime", desc := "()I" } : Jvm.MethodName)) ∈ lw_all := lw_g (lw_at lw_m8 110 rfl) rfl
theorem q1927 : (Jvm.Cond.selects "MovedSpanModel" ({ cls := "MovedSpanModel", name := "inTime", desc := "()I" } : Jvm.MethodName) ({ cls := "MovedSpanModel", name := "inTime", desc := "()I" } : Jvm.MethodName)) ∈ lw_all := lw_g (lw_at lw_m8 111 rfl) rfl
theorem q1928 : (Jvm.Cond.code ({ cls := "MovedSpanModel", name := "inTime", desc := "()I" } : Jvm.MethodName) prog_20_method_82_code (1 : Nat) (Option.some Jvm.ClassFile.FieldType.int)) ∈ lw_all := lw_g (lw_at lw_m8 112 rfl) rfl
theorem q1929 : (Jvm.Cond.methodLink "MovedSpanModel" (369 : Nat) ({ cls := "MovedSpanModel", name := "inTimeSet", desc := "()I" } : Jvm.MethodName)) ∈ lw_all := lw_g (lw_at lw_m8 113 rfl) rfl
theorem q1930 : (Jvm.Cond.privateMethod ({ cls := "MovedSpanModel", name := "inTimeSet", desc := "()I" } : Jvm.MethodName)) ∈ lw_tbl := lw_at lw_m8 114 rfl
theorem q1931 : (Jvm.Cond.instanceMethod ({ cls := "MovedSpanModel", name := "inTimeSet", desc := "()I" } : Jvm.MethodName)) ∈ lw_all := lw_g (lw_at lw_m8 115 rfl) rfl
theorem q1932 : (Jvm.Cond.code ({ cls := "MovedSpanModel", name := "inTimeSet", desc := "()I" } : Jvm.MethodName) prog_20_method_81_code (3 : Nat) (Option.some Jvm.ClassFile.FieldType.int)) ∈ lw_all := lw_g (lw_at lw_m8 116 rfl) rfl
theorem q1933 : (Jvm.Cond.methodLink "MovedSpanModel" (362 : Nat) ({ cls := "MovedSpanModel", name := "isErrand", desc := "(I)Z" } : Jvm.MethodName)) ∈ lw_all := lw_g (lw_at lw_m8 117 rfl) rfl
theorem q1934 : (Jvm.Cond.privateMethod ({ cls := "MovedSpanModel", name := "isErrand", desc := "(I)Z" } : Jvm.MethodName)) ∈ lw_tbl := lw_at lw_m8 118 rfl
theorem q1935 : (Jvm.Cond.instanceMethod ({ cls := "MovedSpanModel", name := "isErrand", desc := "(I)Z" } : Jvm.MethodName)) ∈ lw_all := lw_g (lw_at lw_m8 119 rfl) rfl
theorem q1936 : (Jvm.Cond.code ({ cls := "MovedSpanModel", name := "isErrand", desc := "(I)Z" } : Jvm.MethodName) prog_20_method_79_code (2 : Nat) (Option.some Jvm.ClassFile.FieldType.boolean)) ∈ lw_all := lw_g (lw_at lw_m8 120 rfl) rfl
theorem q1937 : (Jvm.Cond.methodLink "MovedSpanModel" (365 : Nat) ({ cls := "MovedSpanModel", name := "isInTime", desc := "(II)Z" } : Jvm.MethodName)) ∈ lw_all := lw_g (lw_at lw_m8 121 rfl) rfl
theorem q1938 : (Jvm.Cond.privateMethod ({ cls := "MovedSpanModel", name := "isInTime", desc := "(II)Z" } : Jvm.MethodName)) ∈ lw_tbl := lw_at lw_m8 122 rfl
theorem q1939 : (Jvm.Cond.instanceMethod ({ cls := "MovedSpanModel", name := "isInTime", desc := "(II)Z" } : Jvm.MethodName)) ∈ lw_all := lw_g (lw_at lw_m8 123 rfl) rfl
theorem q1940 : (Jvm.Cond.code ({ cls := "MovedSpanModel", name := "isInTime", desc := "(II)Z" } : Jvm.MethodName) prog_20_method_80_code (4 : Nat) (Option.some Jvm.ClassFile.FieldType.boolean)) ∈ lw_all := lw_g (lw_at lw_m8 124 rfl) rfl
theorem q1942 : (Jvm.Cond.instanceMethod ({ cls := "MovedSpanModel", name := "spare", desc := "(I)I" } : Jvm.MethodName)) ∈ lw_all := lw_g (lw_at lw_m8 126 rfl) rfl
theorem q1943 : (Jvm.Cond.selects "MovedSpanModel" ({ cls := "MovedSpanModel", name := "spare", desc := "(I)I" } : Jvm.MethodName) ({ cls := "MovedSpanModel", name := "spare", desc := "(I)I" } : Jvm.MethodName)) ∈ lw_all := lw_g (lw_at lw_m8 127 rfl) rfl
theorem q1944 : (Jvm.Cond.code ({ cls := "MovedSpanModel", name := "spare", desc := "(I)I" } : Jvm.MethodName) prog_20_method_83_code (4 : Nat) (Option.some Jvm.ClassFile.FieldType.int)) ∈ lw_all := lw_g (lw_at lw_m8 128 rfl) rfl
theorem q1946 : (Jvm.Cond.instanceMethod ({ cls := "MovedSpanModel", name := "needs", desc := "(I)I" } : Jvm.MethodName)) ∈ lw_all := lw_g (lw_at lw_m8 130 rfl) rfl
theorem q1947 : (Jvm.Cond.selects "MovedSpanModel" ({ cls := "MovedSpanModel", name := "needs", desc := "(I)I" } : Jvm.MethodName) ({ cls := "MovedSpanModel", name := "needs", desc := "(I)I" } : Jvm.MethodName)) ∈ lw_all := lw_g (lw_at lw_m8 131 rfl) rfl
theorem q1948 : (Jvm.Cond.code ({ cls := "MovedSpanModel", name := "needs", desc := "(I)I" } : Jvm.MethodName) prog_20_method_84_code (5 : Nat) (Option.some Jvm.ClassFile.FieldType.int)) ∈ lw_all := lw_g (lw_at lw_m8 132 rfl) rfl
theorem q1950 : (Jvm.Cond.instanceMethod ({ cls := "MovedSpanModel", name := "moves", desc := "()I" } : Jvm.MethodName)) ∈ lw_all := lw_g (lw_at lw_m8 134 rfl) rfl
theorem q1951 : (Jvm.Cond.selects "MovedSpanModel" ({ cls := "MovedSpanModel", name := "moves", desc := "()I" } : Jvm.MethodName) ({ cls := "MovedSpanModel", name := "moves", desc := "()I" } : Jvm.MethodName)) ∈ lw_all := lw_g (lw_at lw_m8 135 rfl) rfl
theorem q1952 : (Jvm.Cond.code ({ cls := "MovedSpanModel", name := "moves", desc := "()I" } : Jvm.MethodName) prog_20_method_93_code (1 : Nat) (Option.some Jvm.ClassFile.FieldType.int)) ∈ lw_all := lw_g (lw_at lw_m8 136 rfl) rfl
theorem q1953 : (Jvm.Cond.methodLink "MovedSpanModel" (384 : Nat) ({ cls := "MovedSpanModel", name := "movesNow", desc := "()I" } : Jvm.MethodName)) ∈ lw_all := lw_g (lw_at lw_m8 137 rfl) rfl
theorem q1954 : (Jvm.Cond.privateMethod ({ cls := "MovedSpanModel", name := "movesNow", desc := "()I" } : Jvm.MethodName)) ∈ lw_tbl := lw_at lw_m8 138 rfl
theorem q1955 : (Jvm.Cond.instanceMethod ({ cls := "MovedSpanModel", name := "movesNow", desc := "()I" } : Jvm.MethodName)) ∈ lw_all := lw_g (lw_at lw_m8 139 rfl) rfl
theorem q1956 : (Jvm.Cond.code ({ cls := "MovedSpanModel", name := "movesNow", desc := "()I" } : Jvm.MethodName) prog_20_method_85_code (3 : Nat) (Option.some Jvm.ClassFile.FieldType.int)) ∈ lw_all := lw_g (lw_at lw_m8 140 rfl) rfl
theorem q1958 : (Jvm.Cond.instanceMethod ({ cls := "MovedSpanModel", name := "best", desc := "(I)I" } : Jvm.MethodName)) ∈ lw_all := lw_g (lw_at lw_m8 142 rfl) rfl
theorem q1959 : (Jvm.Cond.selects "MovedSpanModel" ({ cls := "MovedSpanModel", name := "best", desc := "(I)I" } : Jvm.MethodName) ({ cls := "MovedSpanModel", name := "best", desc := "(I)I" } : Jvm.MethodName)) ∈ lw_all := lw_g (lw_at lw_m8 143 rfl) rfl
theorem q1960 : (Jvm.Cond.code ({ cls := "MovedSpanModel", name := "best", desc := "(I)I" } : Jvm.MethodName) prog_20_method_94_code (2 : Nat) (Option.some Jvm.ClassFile.FieldType.int)) ∈ lw_all := lw_g (lw_at lw_m8 144 rfl) rfl
theorem q1961 : (Jvm.Cond.methodLink "MovedSpanModel" (402 : Nat) ({ cls := "MovedSpanModel", name := "laysWeeks", desc := "()V" } : Jvm.MethodName)) ∈ lw_all := lw_g (lw_at lw_m8 145 rfl) rfl
theorem q1962 : (Jvm.Cond.privateMethod ({ cls := "MovedSpanModel", name := "laysWeeks", desc := "()V" } : Jvm.MethodName)) ∈ lw_tbl := lw_at lw_m8 146 rfl
theorem q1963 : (Jvm.Cond.instanceMethod ({ cls := "MovedSpanModel", name := "laysWeeks", desc := "()V" } : Jvm.MethodName)) ∈ lw_all := lw_g (lw_at lw_m8 147 rfl) rfl
theorem q1964 : (Jvm.Cond.code ({ cls := "MovedSpanModel", name := "laysWeeks", desc := "()V" } : Jvm.MethodName) prog_20_method_92_code (2 : Nat) (Option.none : Option Jvm.ClassFile.FieldType)) ∈ lw_all := lw_g (lw_at lw_m8 148 rfl) rfl
theorem q1965 : (Jvm.Cond.methodLink "MovedSpanModel" (399 : Nat) ({ cls := "MovedSpanModel", name := "keepsLets", desc := "()V" } : Jvm.MethodName)) ∈ lw_all := lw_g (lw_at lw_m8 149 rfl) rfl
theorem q1966 : (Jvm.Cond.privateMethod ({ cls := "MovedSpanModel", name := "keepsLets", desc := "()V" } : Jvm.MethodName)) ∈ lw_tbl := lw_at lw_m8 150 rfl
theorem q1967 : (Jvm.Cond.instanceMethod ({ cls := "MovedSpanModel", name := "keepsLets", desc := "()V" } : Jvm.MethodName)) ∈ lw_all := lw_g (lw_at lw_m8 151 rfl) rfl
theorem q1968 : (Jvm.Cond.code ({ cls := "MovedSpanModel", name := "keepsLets", desc := "()V" } : Jvm.MethodName) prog_20_method_87_code (3 : Nat) (Option.none : Option Jvm.ClassFile.FieldType)) ∈ lw_all := lw_g (lw_at lw_m8 152 rfl) rfl
theorem q1969 : (Jvm.Cond.methodLink "MovedSpanModel" (378 : Nat) ({ cls := "MovedSpanModel", name := "goesWeeks", desc := "(I)V" } : Jvm.MethodName)) ∈ lw_all := lw_g (lw_at lw_m8 153 rfl) rfl
theorem q1970 : (Jvm.Cond.privateMethod ({ cls := "MovedSpanModel", name := "goesWeeks", desc := "(I)V" } : Jvm.MethodName)) ∈ lw_tbl := lw_at lw_m8 154 rfl
theorem q1971 : (Jvm.Cond.instanceMethod ({ cls := "MovedSpanModel", name := "goesWeeks", desc := "(I)V" } : Jvm.MethodName)) ∈ lw_all := lw_g (lw_at lw_m8 155 rfl) rfl
theorem q1972 : (Jvm.Cond.code ({ cls := "MovedSpanModel", name := "goesWeeks", desc := "(I)V" } : Jvm.MethodName) prog_20_method_90_code (3 : Nat) (Option.none : Option Jvm.ClassFile.FieldType)) ∈ lw_all := lw_g (lw_at lw_m8 156 rfl) rfl
theorem q1973 : (Jvm.Cond.methodLink "MovedSpanModel" (375 : Nat) ({ cls := "MovedSpanModel", name := "laysWeek", desc := "()V" } : Jvm.MethodName)) ∈ lw_all := lw_g (lw_at lw_m8 157 rfl) rfl
theorem q1974 : (Jvm.Cond.privateMethod ({ cls := "MovedSpanModel", name := "laysWeek", desc := "()V" } : Jvm.MethodName)) ∈ lw_tbl := lw_at lw_m8 158 rfl
theorem q1975 : (Jvm.Cond.instanceMethod ({ cls := "MovedSpanModel", name := "laysWeek", desc := "()V" } : Jvm.MethodName)) ∈ lw_all := lw_g (lw_at lw_m8 159 rfl) rfl
theorem q1976 : (Jvm.Cond.code ({ cls := "MovedSpanModel", name := "laysWeek", desc := "()V" } : Jvm.MethodName) prog_20_method_91_code (4 : Nat) (Option.none : Option Jvm.ClassFile.FieldType)) ∈ lw_all := lw_g (lw_at lw_m8 160 rfl) rfl
theorem q1977 : (Jvm.Cond.methodLink "MovedSpanModel" (381 : Nat) ({ cls := "MovedSpanModel", name := "inTimeMany", desc := "()I" } : Jvm.MethodName)) ∈ lw_all := lw_g (lw_at lw_m8 161 rfl) rfl
theorem q1978 : (Jvm.Cond.privateMethod ({ cls := "MovedSpanModel", name := "inTimeMany", desc := "()I" } : Jvm.MethodName)) ∈ lw_tbl := lw_at lw_m8 162 rfl
theorem q1979 : (Jvm.Cond.instanceMethod ({ cls := "MovedSpanModel", name := "inTimeMany", desc := "()I" } : Jvm.MethodName)) ∈ lw_all := lw_g (lw_at lw_m8 163 rfl) rfl
theorem q1980 : (Jvm.Cond.code ({ cls := "MovedSpanModel", name := "inTimeMany", desc := "()I" } : Jvm.MethodName) prog_20_method_89_code (3 : Nat) (Option.some Jvm.ClassFile.FieldType.int)) ∈ lw_all := lw_g (lw_at lw_m8 164 rfl) rfl
theorem q1981 : (Jvm.Cond.methodLink "MovedSpanModel" (372 : Nat) ({ cls := "MovedSpanModel", name := "takesLets", desc := "(I)V" } : Jvm.MethodName)) ∈ lw_all := lw_g (lw_at lw_m8 165 rfl) rfl
theorem q1982 : (Jvm.Cond.privateMethod ({ cls := "MovedSpanModel", name := "takesLets", desc := "(I)V" } : Jvm.MethodName)) ∈ lw_tbl := lw_at lw_m8 166 rfl
theorem q1983 : (Jvm.Cond.instanceMethod ({ cls := "MovedSpanModel", name := "takesLets", desc := "(I)V" } : Jvm.MethodName)) ∈ lw_all := lw_g (lw_at lw_m8 167 rfl) rfl
theorem q1984 : (Jvm.Cond.code ({ cls := "MovedSpanModel", name := "takesLets", desc := "(I)V" } : Jvm.MethodName) prog_20_method_88_code (3 : Nat) (Option.none : Option Jvm.ClassFile.FieldType)) ∈ lw_all := lw_g (lw_at lw_m8 168 rfl) rfl
theorem q1985 : (Jvm.Cond.methodLink "MovedSpanModel" (390 : Nat) ({ cls := "MovedSpanModel", name := "errandsMany", desc := "()I" } : Jvm.MethodName)) ∈ lw_all := lw_g (lw_at lw_m8 169 rfl) rfl
theorem q1986 : (Jvm.Cond.privateMethod ({ cls := "MovedSpanModel", name := "errandsMany", desc := "()I" } : Jvm.MethodName)) ∈ lw_tbl := lw_at lw_m8 170 rfl
theorem q1987 : (Jvm.Cond.instanceMethod ({ cls := "MovedSpanModel", name := "errandsMany", desc := "()I" } : Jvm.MethodName)) ∈ lw_all := lw_g (lw_at lw_m8 171 rfl) rfl
theorem q1988 : (Jvm.Cond.code ({ cls := "MovedSpanModel", name := "errandsMany", desc := "()I" } : Jvm.MethodName) prog_20_method_86_code (3 : Nat) (Option.some Jvm.ClassFile.FieldType.int)) ∈ lw_all := lw_g (lw_at lw_m8 172 rfl) rfl
theorem q1990 : (Jvm.Cond.instanceMethod ({ cls := "MovedSpanModel", name := "weeks", desc := "()I" } : Jvm.MethodName)) ∈ lw_all := lw_g (lw_at lw_m8 174 rfl) rfl
theorem q1991 : (Jvm.Cond.selects "MovedSpanModel" ({ cls := "MovedSpanModel", name := "weeks", desc := "()I" } : Jvm.MethodName) ({ cls := "MovedSpanModel", name := "weeks", desc := "()I" } : Jvm.MethodName)) ∈ lw_all := lw_g (lw_at lw_m8 175 rfl) rfl
theorem q1992 : (Jvm.Cond.code ({ cls := "MovedSpanModel", name := "weeks", desc := "()I" } : Jvm.MethodName) prog_20_method_95_code (1 : Nat) (Option.some Jvm.ClassFile.FieldType.int)) ∈ lw_all := lw_g (lw_at lw_m8 176 rfl) rfl
theorem q1994 : (Jvm.Cond.instanceMethod ({ cls := "MovedSpanModel", name := "change", desc := "()I" } : Jvm.MethodName)) ∈ lw_all := lw_g (lw_at lw_m8 178 rfl) rfl
theorem q1995 : (Jvm.Cond.selects "MovedSpanModel" ({ cls := "MovedSpanModel", name := "change", desc := "()I" } : Jvm.MethodName) ({ cls := "MovedSpanModel", name := "change", desc := "()I" } : Jvm.MethodName)) ∈ lw_all := lw_g (lw_at lw_m8 179 rfl) rfl
theorem q1996 : (Jvm.Cond.code ({ cls := "MovedSpanModel", name := "change", desc := "()I" } : Jvm.MethodName) prog_20_method_96_code (7 : Nat) (Option.some Jvm.ClassFile.FieldType.int)) ∈ lw_all := lw_g (lw_at lw_m8 180 rfl) rfl
theorem q1998 : (Jvm.Cond.instanceMethod ({ cls := "MovedSpanModel", name := "shift", desc := "()I" } : Jvm.MethodName)) ∈ lw_all := lw_g (lw_at lw_m8 182 rfl) rfl
theorem q1999 : (Jvm.Cond.selects "MovedSpanModel" ({ cls := "MovedSpanModel", name := "shift", desc := "()I" } : Jvm.MethodName) ({ cls := "MovedSpanModel", name := "shift", desc := "()I" } : Jvm.MethodName)) ∈ lw_all := lw_g (lw_at lw_m8 183 rfl) rfl
theorem q2000 : (Jvm.Cond.code ({ cls := "MovedSpanModel", name := "shift", desc := "()I" } : Jvm.MethodName) prog_20_method_97_code (5 : Nat) (Option.some Jvm.ClassFile.FieldType.int)) ∈ lw_all := lw_g (lw_at lw_m8 184 rfl) rfl
theorem q2002 : (Jvm.Cond.instanceMethod ({ cls := "MovedSpanModel", name := "fits", desc := "(III)I" } : Jvm.MethodName)) ∈ lw_all := lw_g (lw_at lw_m8 186 rfl) rfl
theorem q2003 : (Jvm.Cond.selects "MovedSpanModel" ({ cls := "MovedSpanModel", name := "fits", desc := "(III)I" } : Jvm.MethodName) ({ cls := "MovedSpanModel", name := "fits", desc := "(III)I" } : Jvm.MethodName)) ∈ lw_all := lw_g (lw_at lw_m8 187 rfl) rfl
theorem q2004 : (Jvm.Cond.code ({ cls := "MovedSpanModel", name := "fits", desc := "(III)I" } : Jvm.MethodName) prog_20_method_101_code (5 : Nat) (Option.some Jvm.ClassFile.FieldType.int)) ∈ lw_all := lw_g (lw_at lw_m8 188 rfl) rfl
theorem q2005 : (Jvm.Cond.methodLink "MovedSpanModel" (408 : Nat) ({ cls := "MovedSpanModel", name := "noSeen", desc := "(II)I" } : Jvm.MethodName)) ∈ lw_all := lw_g (lw_at lw_m8 189 rfl) rfl
theorem q2006 : (Jvm.Cond.privateMethod ({ cls := "MovedSpanModel", name := "noSeen", desc := "(II)I" } : Jvm.MethodName)) ∈ lw_tbl := lw_at lw_m8 190 rfl
theorem q2007 : (Jvm.Cond.instanceMethod ({ cls := "MovedSpanModel", name := "noSeen", desc := "(II)I" } : Jvm.MethodName)) ∈ lw_all := lw_g (lw_at lw_m8 191 rfl) rfl
theorem q2008 : (Jvm.Cond.code ({ cls := "MovedSpanModel", name := "noSeen", desc := "(II)I" } : Jvm.MethodName) prog_20_method_98_code (5 : Nat) (Option.some Jvm.ClassFile.FieldType.int)) ∈ lw_all := lw_g (lw_at lw_m8 192 rfl) rfl
theorem q2009 : (Jvm.Cond.methodLink "MovedSpanModel" (411 : Nat) ({ cls := "MovedSpanModel", name := "fitting", desc := "(III)I" } : Jvm.MethodName)) ∈ lw_all := lw_g (lw_at lw_m8 193 rfl) rfl
theorem q2010 : (Jvm.Cond.privateMethod ({ cls := "MovedSpanModel", name := "fitting", desc := "(III)I" } : Jvm.MethodName)) ∈ lw_tbl := lw_at lw_m8 194 rfl
theorem q2011 : (Jvm.Cond.instanceMethod ({ cls := "MovedSpanModel", name := "fitting", desc := "(III)I" } : Jvm.MethodName)) ∈ lw_all := lw_g (lw_at lw_m8 195 rfl) rfl
theorem q2012 : (Jvm.Cond.code ({ cls := "MovedSpanModel", name := "fitting", desc := "(III)I" } : Jvm.MethodName) prog_20_method_100_code (7 : Nat) (Option.some Jvm.ClassFile.FieldType.int)) ∈ lw_all := lw_g (lw_at lw_m8 196 rfl) rfl
theorem q2013 : (Jvm.Cond.methodLink "MovedSpanModel" (405 : Nat) ({ cls := "MovedSpanModel", name := "oddIn", desc := "(I)I" } : Jvm.MethodName)) ∈ lw_all := lw_g (lw_at lw_m8 197 rfl) rfl
theorem q2014 : (Jvm.Cond.privateMethod ({ cls := "MovedSpanModel", name := "oddIn", desc := "(I)I" } : Jvm.MethodName)) ∈ lw_tbl := lw_at lw_m8 198 rfl
theorem q2015 : (Jvm.Cond.instanceMethod ({ cls := "MovedSpanModel", name := "oddIn", desc := "(I)I" } : Jvm.MethodName)) ∈ lw_all := lw_g (lw_at lw_m8 199 rfl) rfl
theorem q2016 : (Jvm.Cond.code ({ cls := "MovedSpanModel", name := "oddIn", desc := "(I)I" } : Jvm.MethodName) prog_20_method_99_code (5 : Nat) (Option.some Jvm.ClassFile.FieldType.int)) ∈ lw_all := lw_g (lw_at lw_m8 200 rfl) rfl
theorem q2018 : (Jvm.Cond.instanceMethod ({ cls := "MovedSpanModel", name := "surest", desc := "(II)I" } : Jvm.MethodName)) ∈ lw_all := lw_g (lw_at lw_m8 202 rfl) rfl
theorem q2019 : (Jvm.Cond.selects "MovedSpanModel" ({ cls := "MovedSpanModel", name := "surest", desc := "(II)I" } : Jvm.MethodName) ({ cls := "MovedSpanModel", name := "surest", desc := "(II)I" } : Jvm.MethodName)) ∈ lw_all := lw_g (lw_at lw_m8 203 rfl) rfl
theorem q2020 : (Jvm.Cond.code ({ cls := "MovedSpanModel", name := "surest", desc := "(II)I" } : Jvm.MethodName) prog_20_method_102_code (8 : Nat) (Option.some Jvm.ClassFile.FieldType.int)) ∈ lw_all := lw_g (lw_at lw_m8 204 rfl) rfl
theorem q2021 : (Jvm.Cond.methodLink "MovedSpanModel" (414 : Nat) ({ cls := "MovedSpanModel", name := "bitsOf", desc := "(I)I" } : Jvm.MethodName)) ∈ lw_all := lw_g (lw_at lw_m8 205 rfl) rfl
theorem q2022 : (Jvm.Cond.static ({ cls := "MovedSpanModel", name := "bitsOf", desc := "(I)I" } : Jvm.MethodName)) ∈ lw_all := lw_g (lw_at lw_m8 206 rfl) rfl
theorem q2023 : (Jvm.Cond.code ({ cls := "MovedSpanModel", name := "bitsOf", desc := "(I)I" } : Jvm.MethodName) prog_20_method_36_code (3 : Nat) (Option.some Jvm.ClassFile.FieldType.int)) ∈ lw_all := lw_g (lw_at lw_m8 207 rfl) rfl
theorem q2025 : (Jvm.Cond.instanceMethod ({ cls := "MovedSpanModel", name := "odd", desc := "(II)I" } : Jvm.MethodName)) ∈ lw_all := lw_g (lw_at lw_m8 209 rfl) rfl
theorem q2026 : (Jvm.Cond.selects "MovedSpanModel" ({ cls := "MovedSpanModel", name := "odd", desc := "(II)I" } : Jvm.MethodName) ({ cls := "MovedSpanModel", name := "odd", desc := "(II)I" } : Jvm.MethodName)) ∈ lw_all := lw_g (lw_at lw_m8 210 rfl) rfl
theorem q2027 : (Jvm.Cond.code ({ cls := "MovedSpanModel", name := "odd", desc := "(II)I" } : Jvm.MethodName) prog_20_method_103_code (4 : Nat) (Option.some Jvm.ClassFile.FieldType.int)) ∈ lw_all := lw_g (lw_at lw_m8 211 rfl) rfl
theorem q2029 : (Jvm.Cond.instanceMethod ({ cls := "MovedSpanModel", name := "chance", desc := "(IIII)J" } : Jvm.MethodName)) ∈ lw_all := lw_g (lw_at lw_m8 213 rfl) rfl
theorem q2030 : (Jvm.Cond.selects "MovedSpanModel" ({ cls := "MovedSpanModel", name := "chance", desc := "(IIII)J" } : Jvm.MethodName) ({ cls := "MovedSpanModel", name := "chance", desc := "(IIII)J" } : Jvm.MethodName)) ∈ lw_all := lw_g (lw_at lw_m8 214 rfl) rfl
theorem q2031 : (Jvm.Cond.code ({ cls := "MovedSpanModel", name := "chance", desc := "(IIII)J" } : Jvm.MethodName) prog_20_method_108_code (9 : Nat) (Option.some Jvm.ClassFile.FieldType.long)) ∈ lw_all := lw_g (lw_at lw_m8 215 rfl) rfl
theorem q2032 : (Jvm.Cond.methodLink "MovedSpanModel" (425 : Nat) ({ cls := "MovedSpanModel", name := "chanceOf", desc := "(III)J" } : Jvm.MethodName)) ∈ lw_all := lw_g (lw_at lw_m8 216 rfl) rfl
theorem q2033 : (Jvm.Cond.privateMethod ({ cls := "MovedSpanModel", name := "chanceOf", desc := "(III)J" } : Jvm.MethodName)) ∈ lw_tbl := lw_at lw_m8 217 rfl
theorem q2034 : (Jvm.Cond.instanceMethod ({ cls := "MovedSpanModel", name := "chanceOf", desc := "(III)J" } : Jvm.MethodName)) ∈ lw_all := lw_g (lw_at lw_m8 218 rfl) rfl
theorem q2035 : (Jvm.Cond.code ({ cls := "MovedSpanModel", name := "chanceOf", desc := "(III)J" } : Jvm.MethodName) prog_20_method_105_code (9 : Nat) (Option.some Jvm.ClassFile.FieldType.long)) ∈ lw_all := lw_g (lw_at lw_m8 219 rfl) rfl
theorem q2036 : (Jvm.Cond.methodLink "MovedSpanModel" (417 : Nat) ({ cls := "MovedSpanModel", name := "bestOn", desc := "(III)J" } : Jvm.MethodName)) ∈ lw_all := lw_g (lw_at lw_m8 220 rfl) rfl
theorem q2037 : (Jvm.Cond.privateMethod ({ cls := "MovedSpanModel", name := "bestOn", desc := "(III)J" } : Jvm.MethodName)) ∈ lw_tbl := lw_at lw_m8 221 rfl
theorem q2038 : (Jvm.Cond.instanceMethod ({ cls := "MovedSpanModel", name := "bestOn", desc := "(III)J" } : Jvm.MethodName)) ∈ lw_all := lw_g (lw_at lw_m8 222 rfl) rfl
theorem q2039 : (Jvm.Cond.code ({ cls := "MovedSpanModel", name := "bestOn", desc := "(III)J" } : Jvm.MethodName) prog_20_method_104_code (8 : Nat) (Option.some Jvm.ClassFile.FieldType.long)) ∈ lw_all := lw_g (lw_at lw_m8 223 rfl) rfl
theorem q2040 : (Jvm.Cond.methodLink "MovedSpanModel" (428 : Nat) ({ cls := "MovedSpanModel", name := "tens", desc := "(I)J" } : Jvm.MethodName)) ∈ lw_all := lw_g (lw_at lw_m8 224 rfl) rfl
theorem q2041 : (Jvm.Cond.static ({ cls := "MovedSpanModel", name := "tens", desc := "(I)J" } : Jvm.MethodName)) ∈ lw_all := lw_g (lw_at lw_m8 225 rfl) rfl
theorem q2042 : (Jvm.Cond.code ({ cls := "MovedSpanModel", name := "tens", desc := "(I)J" } : Jvm.MethodName) prog_20_method_106_code (4 : Nat) (Option.some Jvm.ClassFile.FieldType.long)) ∈ lw_all := lw_g (lw_at lw_m8 226 rfl) rfl
theorem q2043 : (Jvm.Cond.methodLink "MovedSpanModel" (421 : Nat) ({ cls := "MovedSpanModel", name := "common", desc := "(JJ)J" } : Jvm.MethodName)) ∈ lw_all := lw_g (lw_at lw_m8 227 rfl) rfl
theorem q2044 : (Jvm.Cond.static ({ cls := "MovedSpanModel", name := "common", desc := "(JJ)J" } : Jvm.MethodName)) ∈ lw_all := lw_g (lw_at lw_m8 228 rfl) rfl
theorem q2045 : (Jvm.Cond.code ({ cls := "MovedSpanModel", name := "common", desc := "(JJ)J" } : Jvm.MethodName) prog_20_method_107_code (4 : Nat) (Option.some Jvm.ClassFile.FieldType.long)) ∈ lw_all := lw_g (lw_at lw_m8 229 rfl) rfl
theorem q2047 : (Jvm.Cond.instanceMethod ({ cls := "MovedSpanModel", name := "likely", desc := "(III)I" } : Jvm.MethodName)) ∈ lw_all := lw_g (lw_at lw_m8 231 rfl) rfl
theorem q2048 : (Jvm.Cond.selects "MovedSpanModel" ({ cls := "MovedSpanModel", name := "likely", desc := "(III)I" } : Jvm.MethodName) ({ cls := "MovedSpanModel", name := "likely", desc := "(III)I" } : Jvm.MethodName)) ∈ lw_all := lw_g (lw_at lw_m8 232 rfl) rfl
theorem q2049 : (Jvm.Cond.code ({ cls := "MovedSpanModel", name := "likely", desc := "(III)I" } : Jvm.MethodName) prog_20_method_109_code (5 : Nat) (Option.some Jvm.ClassFile.FieldType.int)) ∈ lw_all := lw_g (lw_at lw_m8 233 rfl) rfl
theorem q2051 : (Jvm.Cond.instanceMethod ({ cls := "MovedSpanModel", name := "numbers", desc := "(III)I" } : Jvm.MethodName)) ∈ lw_all := lw_g (lw_at lw_m8 235 rfl) rfl
theorem q2052 : (Jvm.Cond.selects "MovedSpanModel" ({ cls := "MovedSpanModel", name := "numbers", desc := "(III)I" } : Jvm.MethodName) ({ cls := "MovedSpanModel", name := "numbers", desc := "(III)I" } : Jvm.MethodName)) ∈ lw_all := lw_g (lw_at lw_m8 236 rfl) rfl
theorem q2053 : (Jvm.Cond.code ({ cls := "MovedSpanModel", name := "numbers", desc := "(III)I" } : Jvm.MethodName) prog_20_method_111_code (5 : Nat) (Option.some Jvm.ClassFile.FieldType.int)) ∈ lw_all := lw_g (lw_at lw_m8 237 rfl) rfl
theorem q2055 : (Jvm.Cond.instanceMethod ({ cls := "MovedSpanModel", name := "write", desc := "(IIJ)J" } : Jvm.MethodName)) ∈ lw_all := lw_g (lw_at lw_m8 239 rfl) rfl
theorem q2056 : (Jvm.Cond.selects "MovedSpanModel" ({ cls := "MovedSpanModel", name := "write", desc := "(IIJ)J" } : Jvm.MethodName) ({ cls := "MovedSpanModel", name := "write", desc := "(IIJ)J" } : Jvm.MethodName)) ∈ lw_all := lw_g (lw_at lw_m9 0 rfl) rfl
theorem q2057 : (Jvm.Cond.code ({ cls := "MovedSpanModel", name := "write", desc := "(IIJ)J" } : Jvm.MethodName) prog_20_method_112_code (6 : Nat) (Option.some Jvm.ClassFile.FieldType.long)) ∈ lw_all := lw_g (lw_at lw_m9 1 rfl) rfl
theorem q2058 : (Jvm.Cond.constantLong "MovedSpanModel" (432 : Nat) (-7 : Int64)) ∈ lw_all := lw_g (lw_at lw_m9 2 rfl) rfl
theorem q2059 : (Jvm.Cond.methodLink "MovedSpanModel" (434 : Nat) ({ cls := "MovedSpanModel", name := "cut", desc := "(JI)J" } : Jvm.MethodName)) ∈ lw_all := lw_g (lw_at lw_m9 3 rfl) rfl
theorem q2060 : (Jvm.Cond.static ({ cls := "MovedSpanModel", name := "cut", desc := "(JI)J" } : Jvm.MethodName)) ∈ lw_all := lw_g (lw_at lw_m9 4 rfl) rfl
theorem q2061 : (Jvm.Cond.code ({ cls := "MovedSpanModel", name := "cut", desc := "(JI)J" } : Jvm.MethodName) prog_20_method_110_code (3 : Nat) (Option.some Jvm.ClassFile.FieldType.long)) ∈ lw_all := lw_g (lw_at lw_m9 5 rfl) rfl
theorem q2063 : (Jvm.Cond.instanceMethod ({ cls := "MovedSpanModel", name := "lists", desc := "(III)I" } : Jvm.MethodName)) ∈ lw_all := lw_g (lw_at lw_m9 7 rfl) rfl
theorem q2064 : (Jvm.Cond.selects "MovedSpanModel" ({ cls := "MovedSpanModel", name := "lists", desc := "(III)I" } : Jvm.MethodName) ({ cls := "MovedSpanModel", name := "lists", desc := "(III)I" } : Jvm.MethodName)) ∈ lw_all := lw_g (lw_at lw_m9 8 rfl) rfl
theorem q2065 : (Jvm.Cond.code ({ cls := "MovedSpanModel", name := "lists", desc := "(III)I" } : Jvm.MethodName) prog_20_method_113_code (8 : Nat) (Option.some Jvm.ClassFile.FieldType.int)) ∈ lw_all := lw_g (lw_at lw_m9 9 rfl) rfl
theorem q2067 : (Jvm.Cond.instanceMethod ({ cls := "MovedSpanModel", name := "image", desc := "(I)I" } : Jvm.MethodName)) ∈ lw_all := lw_g (lw_at lw_m9 11 rfl) rfl
theorem q2068 : (Jvm.Cond.selects "MovedSpanModel" ({ cls := "MovedSpanModel", name := "image", desc := "(I)I" } : Jvm.MethodName) ({ cls := "MovedSpanModel", name := "image", desc := "(I)I" } : Jvm.MethodName)) ∈ lw_all := lw_g (lw_at lw_m9 12 rfl) rfl
theorem q2069 : (Jvm.Cond.code ({ cls := "MovedSpanModel", name := "image", desc := "(I)I" } : Jvm.MethodName) prog_20_method_114_code (3 : Nat) (Option.some Jvm.ClassFile.FieldType.int)) ∈ lw_all := lw_g (lw_at lw_m9 13 rfl) rfl
theorem q2071 : (Jvm.Cond.instanceMethod ({ cls := "MovedSpanModel", name := "restore", desc := "(I)I" } : Jvm.MethodName)) ∈ lw_all := lw_g (lw_at lw_m9 15 rfl) rfl
theorem q2072 : (Jvm.Cond.selects "MovedSpanModel" ({ cls := "MovedSpanModel", name := "restore", desc := "(I)I" } : Jvm.MethodName) ({ cls := "MovedSpanModel", name := "restore", desc := "(I)I" } : Jvm.MethodName)) ∈ lw_all := lw_g (lw_at lw_m9 16 rfl) rfl
theorem q2073 : (Jvm.Cond.code ({ cls := "MovedSpanModel", name := "restore", desc := "(I)I" } : Jvm.MethodName) prog_20_method_115_code (3 : Nat) (Option.some Jvm.ClassFile.FieldType.int)) ∈ lw_all := lw_g (lw_at lw_m9 17 rfl) rfl
theorem q2075 : (Jvm.Cond.instanceMethod ({ cls := "MovedSpanModel", name := "count", desc := "(I)I" } : Jvm.MethodName)) ∈ lw_all := lw_g (lw_at lw_m9 19 rfl) rfl
theorem q2076 : (Jvm.Cond.selects "MovedSpanModel" ({ cls := "MovedSpanModel", name := "count", desc := "(I)I" } : Jvm.MethodName) ({ cls := "MovedSpanModel", name := "count", desc := "(I)I" } : Jvm.MethodName)) ∈ lw_all := lw_g (lw_at lw_m9 20 rfl) rfl
theorem q2077 : (Jvm.Cond.code ({ cls := "MovedSpanModel", name := "count", desc := "(I)I" } : Jvm.MethodName) prog_20_method_118_code (2 : Nat) (Option.some Jvm.ClassFile.FieldType.int)) ∈ lw_all := lw_g (lw_at lw_m9 21 rfl) rfl
theorem q2078 : (Jvm.Cond.methodLink "MovedSpanModel" (438 : Nat) ({ cls := "MovedSpanModel", name := "errandsSet", desc := "()I" } : Jvm.MethodName)) ∈ lw_all := lw_g (lw_at lw_m9 22 rfl) rfl
theorem q2079 : (Jvm.Cond.privateMethod ({ cls := "MovedSpanModel", name := "errandsSet", desc := "()I" } : Jvm.MethodName)) ∈ lw_tbl := lw_at lw_m9 23 rfl
theorem q2080 : (Jvm.Cond.instanceMethod ({ cls := "MovedSpanModel", name := "errandsSet", desc := "()I" } : Jvm.MethodName)) ∈ lw_all := lw_g (lw_at lw_m9 24 rfl) rfl
theorem q2081 : (Jvm.Cond.code ({ cls := "MovedSpanModel", name := "errandsSet", desc := "()I" } : Jvm.MethodName) prog_20_method_116_code (3 : Nat) (Option.some Jvm.ClassFile.FieldType.int)) ∈ lw_all := lw_g (lw_at lw_m9 25 rfl) rfl
theorem q2082 : (Jvm.Cond.methodLink "MovedSpanModel" (441 : Nat) ({ cls := "MovedSpanModel", name := "onSpan", desc := "()I" } : Jvm.MethodName)) ∈ lw_all := lw_g (lw_at lw_m9 26 rfl) rfl
theorem q2083 : (Jvm.Cond.privateMethod ({ cls := "MovedSpanModel", name := "onSpan", desc := "()I" } : Jvm.MethodName)) ∈ lw_tbl := lw_at lw_m9 27 rfl
theorem q2084 : (Jvm.Cond.instanceMethod ({ cls := "MovedSpanModel", name := "onSpan", desc := "()I" } : Jvm.MethodName)) ∈ lw_all := lw_g (lw_at lw_m9 28 rfl) rfl
theorem q2085 : (Jvm.Cond.code ({ cls := "MovedSpanModel", name := "onSpan", desc := "()I" } : Jvm.MethodName) prog_20_method_117_code (3 : Nat) (Option.some Jvm.ClassFile.FieldType.int)) ∈ lw_all := lw_g (lw_at lw_m9 29 rfl) rfl
theorem in_X9 : ∀ w ∈ wsX90, w ∈ lw_all := lw_in wsX90 [1524, 1526, 1528, 1530, 1532, 1534, 1536, 1538, 1540, 1542, 1544, 1546, 1548, 1550, 1552, 1554, 1556, 1558, 1560, 1562, 1564, 1566, 1568, 1570, 1572, 1574, 1576, 1578, 1580, 1582, 1584, 1586, 1588, 1590, 1592, 1594, 1596, 1598, 1600, 1602, 1604] (by decide +kernel) (by decide +kernel)
abbrev cX10_init : ByteArray := prog_13_method_1_code
abbrev cX10_read : ByteArray := prog_13_method_13_code
abbrev cX10_next : ByteArray := prog_13_method_5_code
abbrev cX10_see : ByteArray := prog_13_method_2_code
abbrev cX10_isSmall : ByteArray := prog_13_method_3_code
abbrev cX10_isDigit : ByteArray := prog_13_method_4_code
abbrev cX10_mustWord : ByteArray := prog_13_method_11_code
abbrev cX10_takes : ByteArray := prog_13_method_8_code
abbrev cX10_is : ByteArray := prog_13_method_7_code
abbrev cX10_wrong : ByteArray := prog_13_method_6_code
abbrev cX10_number : ByteArray := prog_13_method_12_code
abbrev cX10_ends : ByteArray := prog_13_method_14_code
abbrev cX10_must : ByteArray := prog_13_method_10_code
abbrev cX10_line : ByteArray := prog_13_method_15_code
abbrev cX10_span : ByteArray := prog_13_method_16_code
abbrev cX10_person : ByteArray := prog_13_method_18_code
abbrev cX10_spot : ByteArray := prog_13_method_17_code
abbrev cX10_flag : ByteArray := prog_13_method_19_code
abbrev cX10_errand : ByteArray := prog_13_method_20_code
abbrev cX10_walks : ByteArray := prog_13_method_21_code
abbrev cX10_truth : ByteArray := prog_13_method_24_code
abbrev cX10_both : ByteArray := prog_13_method_25_code
abbrev cX10_unit : ByteArray := prog_13_method_26_code
abbrev cX10_goesIn : ByteArray := prog_13_method_23_code
abbrev cX10_isSign : ByteArray := prog_13_method_9_code
abbrev cX10_sum : ByteArray := prog_13_method_27_code
abbrev cX10_term : ByteArray := prog_13_method_28_code
abbrev cX10_atom : ByteArray := prog_13_method_30_code
abbrev cX10_word : ByteArray := prog_13_method_29_code
abbrev cX10_serves : ByteArray := prog_13_method_22_code
def RX10 : String := "MovedSpan$Reader"
def TX10 : u_T := fun k => match k with
  | 0 => ("MovedSpan$Reader", "size", "I", true)
  | 1 => ("MovedSpan$Reader", "made", "LMovedSpan$River;", true)
  | 2 => ("MovedSpan$Reader", "at", "I", false)
  | 3 => ("MovedSpan$Reader", "begin", "I", false)
  | 4 => ("MovedSpan$Reader", "token", "I", false)
  | 5 => ("MovedSpan$Reader", "value", "I", false)
  | 6 => ("MovedSpan$Reader", "fault", "I", false)
  | 7 => ("MovedSpan$Reader", "deep", "I", false)
  | 8 => ("MovedSpan$Reader", "place", "I", false)
  | 9 => ("MovedSpan$Reader", "isWalks", "Z", false)
  | _ => ("MovedSpan$Reader", "this$0", "LMovedSpan;", true)
def tyX10 : Nat → FieldType := fun k => match k with
  | 0 => .int
  | 1 => .object "MovedSpan$River"
  | 2 => .int
  | 3 => .int
  | 4 => .int
  | 5 => .int
  | 6 => .int
  | 7 => .int
  | 8 => .int
  | 9 => .boolean
  | _ => .object "MovedSpan"
abbrev wsX100 : List Cond := u_ws RX10 TX10 11
theorem nmX10 : ∀ a, a < 11 → ∀ b, b < 11 → a ≠ b → (TX10 a).2.1 ≠ (TX10 b).2.1 := by decide +kernel
theorem tyX10_ok : ∀ k, k < 11 → parseFieldDescriptor (TX10 k).2.2.1 = some (tyX10 k) := by decide +kernel
def yX10_init : MethodName := ⟨RX10, "<init>", "(LMovedSpan;I)V"⟩
def yX10_read : MethodName := ⟨RX10, "read", "()V"⟩
def yX10_next : MethodName := ⟨RX10, "next", "()V"⟩
def yX10_see : MethodName := ⟨RX10, "see", "(I)I"⟩
def yX10_isSmall : MethodName := ⟨RX10, "isSmall", "(I)Z"⟩
def yX10_isDigit : MethodName := ⟨RX10, "isDigit", "(I)Z"⟩
def yX10_mustWord : MethodName := ⟨RX10, "mustWord", "(Ljava/lang/String;)V"⟩
def yX10_takes : MethodName := ⟨RX10, "takes", "(Ljava/lang/String;)Z"⟩
def yX10_is : MethodName := ⟨RX10, "is", "(Ljava/lang/String;)Z"⟩
def yX10_wrong : MethodName := ⟨RX10, "wrong", "(I)V"⟩
def yX10_number : MethodName := ⟨RX10, "number", "(II)I"⟩
def yX10_ends : MethodName := ⟨RX10, "ends", "()V"⟩
def yX10_must : MethodName := ⟨RX10, "must", "(I)V"⟩
def yX10_line : MethodName := ⟨RX10, "line", "()V"⟩
def yX10_span : MethodName := ⟨RX10, "span", "()V"⟩
def yX10_person : MethodName := ⟨RX10, "person", "()V"⟩
def yX10_spot : MethodName := ⟨RX10, "spot", "()I"⟩
def yX10_flag : MethodName := ⟨RX10, "flag", "(I)Z"⟩
def yX10_errand : MethodName := ⟨RX10, "errand", "(I)V"⟩
def yX10_walks : MethodName := ⟨RX10, "walks", "()V"⟩
def yX10_truth : MethodName := ⟨RX10, "truth", "()LMovedSpan$Truth;"⟩
def yX10_both : MethodName := ⟨RX10, "both", "()LMovedSpan$Truth;"⟩
def yX10_unit : MethodName := ⟨RX10, "unit", "()LMovedSpan$Truth;"⟩
def yX10_goesIn : MethodName := ⟨RX10, "goesIn", "()V"⟩
def yX10_isSign : MethodName := ⟨RX10, "isSign", "(I)Z"⟩
def yX10_sum : MethodName := ⟨RX10, "sum", "()LMovedSpan$Sum;"⟩
def yX10_term : MethodName := ⟨RX10, "term", "()LMovedSpan$Sum;"⟩
def yX10_atom : MethodName := ⟨RX10, "atom", "()LMovedSpan$Sum;"⟩
def yX10_word : MethodName := ⟨RX10, "word", "()I"⟩
def yX10_serves : MethodName := ⟨RX10, "serves", "()V"⟩
theorem q148 : (Jvm.Cond.initialized "MovedSpan$Reader") ∈ lw_all := lw_g (lw_at lw_m1 12 rfl) rfl
theorem q187 : (Jvm.Cond.fieldLinkNest "MovedSpan$Reader" (156 : Nat) "MovedSpan$River" "plan" "[I" "MovedSpan") ∈ lw_tbl := lw_at lw_m1 51 rfl
theorem q190 : (Jvm.Cond.fieldLinkNest "MovedSpan$Reader" (167 : Nat) "MovedSpan$River" "at" "[I" "MovedSpan") ∈ lw_tbl := lw_at lw_m1 54 rfl
theorem q193 : (Jvm.Cond.fieldLinkNest "MovedSpan$Reader" (183 : Nat) "MovedSpan$River" "load" "[I" "MovedSpan") ∈ lw_tbl := lw_at lw_m1 57 rfl
theorem q197 : (Jvm.Cond.fieldLinkNest "MovedSpan$Reader" (172 : Nat) "MovedSpan$River" "goal" "[I" "MovedSpan") ∈ lw_tbl := lw_at lw_m1 61 rfl
theorem q201 : (Jvm.Cond.fieldLinkNest "MovedSpan$Reader" (175 : Nat) "MovedSpan$River" "by" "[I" "MovedSpan") ∈ lw_tbl := lw_at lw_m1 65 rfl
theorem q206 : (Jvm.Cond.fieldLinkNest "MovedSpan$Reader" (110 : Nat) "MovedSpan$River" "gaps" "I" "MovedSpan") ∈ lw_tbl := lw_at lw_m1 70 rfl
theorem q210 : (Jvm.Cond.fieldLinkNest "MovedSpan$Reader" (115 : Nat) "MovedSpan$River" "week" "I" "MovedSpan") ∈ lw_tbl := lw_at lw_m1 74 rfl
theorem q215 : (Jvm.Cond.fieldLinkNest "MovedSpan$Reader" (164 : Nat) "MovedSpan$River" "people" "I" "MovedSpan") ∈ lw_tbl := lw_at lw_m1 79 rfl
theorem q216 : (Jvm.Cond.fieldLinkNest "MovedSpan$Reader" (147 : Nat) "MovedSpan$River" "foggy" "I" "MovedSpan") ∈ lw_tbl := lw_at lw_m1 80 rfl
theorem q219 : (Jvm.Cond.fieldLinkNest "MovedSpan$Reader" (151 : Nat) "MovedSpan$River" "hour" "I" "MovedSpan") ∈ lw_tbl := lw_at lw_m1 83 rfl
theorem q221 : (Jvm.Cond.fieldLinkNest "MovedSpan$Reader" (126 : Nat) "MovedSpan$River" "lines" "I" "MovedSpan") ∈ lw_tbl := lw_at lw_m1 85 rfl
theorem q223 : (Jvm.Cond.fieldLinkNest "MovedSpan$Reader" (199 : Nat) "MovedSpan$River" "walks" "LMovedSpan$Truth;" "MovedSpan") ∈ lw_tbl := lw_at lw_m1 87 rfl
theorem q225 : (Jvm.Cond.fieldLinkNest "MovedSpan$Reader" (202 : Nat) "MovedSpan$River" "serves" "LMovedSpan$Truth;" "MovedSpan") ∈ lw_tbl := lw_at lw_m1 89 rfl
theorem q380 : (Jvm.Cond.fieldLinkNest "MovedSpan$Reader" (29 : Nat) "MovedSpan" "tape" "[B" "MovedSpan") ∈ lw_tbl := lw_at lw_m2 4 rfl
theorem q478 : (Jvm.Cond.instantiable "MovedSpan$Reader" (11 : Nat)) ∈ lw_all := lw_g (lw_at lw_m2 102 rfl) rfl
theorem q480 : (Jvm.Cond.instanceMethod ({ cls := "MovedSpan$Reader", name := "<init>", desc := "(LMovedSpan;I)V" } : Jvm.MethodName)) ∈ lw_all := lw_g (lw_at lw_m2 104 rfl) rfl
theorem q481 : (Jvm.Cond.code ({ cls := "MovedSpan$Reader", name := "<init>", desc := "(LMovedSpan;I)V" } : Jvm.MethodName) prog_13_method_1_code (3 : Nat) (Option.none : Option Jvm.ClassFile.FieldType)) ∈ lw_all := lw_g (lw_at lw_m2 105 rfl) rfl
theorem q482 : (Jvm.Cond.methodLink "MovedSpan$Reader" (9 : Nat) ({ cls := "java/lang/Object", name := "<init>", desc := "()V" } : Jvm.MethodName)) ∈ lw_all := lw_g (lw_at lw_m2 106 rfl) rfl
theorem q483 : (Jvm.Cond.classLink "MovedSpan$Reader" (15 : Nat) "MovedSpan$River") ∈ lw_all := lw_g (lw_at lw_m2 107 rfl) rfl
theorem q484 : (Jvm.Cond.methodLinkNest "MovedSpan$Reader" (17 : Nat) ({ cls := "MovedSpan$River", name := "<init>", desc := "()V" } : Jvm.MethodName) "MovedSpan") ∈ lw_tbl := lw_at lw_m2 108 rfl
theorem q485 : (Jvm.Cond.fieldLink "MovedSpan$Reader" (26 : Nat) "MovedSpan$Reader" "size" "I") ∈ lw_all := lw_g (lw_at lw_m2 109 rfl) rfl
theorem q486 : (Jvm.Cond.fieldLink "MovedSpan$Reader" (18 : Nat) "MovedSpan$Reader" "made" "LMovedSpan$River;") ∈ lw_all := lw_g (lw_at lw_m2 110 rfl) rfl
theorem q488 : (Jvm.Cond.fieldLink "MovedSpan$Reader" (49 : Nat) "MovedSpan$Reader" "at" "I") ∈ lw_all := lw_g (lw_at lw_m2 112 rfl) rfl
theorem q489 : (Jvm.Cond.fieldLink "MovedSpan$Reader" (52 : Nat) "MovedSpan$Reader" "begin" "I") ∈ lw_all := lw_g (lw_at lw_m2 113 rfl) rfl
theorem q490 : (Jvm.Cond.fieldLink "MovedSpan$Reader" (55 : Nat) "MovedSpan$Reader" "token" "I") ∈ lw_all := lw_g (lw_at lw_m2 114 rfl) rfl
theorem q491 : (Jvm.Cond.fieldLink "MovedSpan$Reader" (65 : Nat) "MovedSpan$Reader" "value" "I") ∈ lw_all := lw_g (lw_at lw_m2 115 rfl) rfl
theorem q492 : (Jvm.Cond.fieldLink "MovedSpan$Reader" (75 : Nat) "MovedSpan$Reader" "fault" "I") ∈ lw_all := lw_g (lw_at lw_m2 116 rfl) rfl
theorem q494 : (Jvm.Cond.fieldLink "MovedSpan$Reader" (204 : Nat) "MovedSpan$Reader" "deep" "I") ∈ lw_all := lw_g (lw_at lw_m2 118 rfl) rfl
theorem q495 : (Jvm.Cond.fieldLink "MovedSpan$Reader" (22 : Nat) "MovedSpan$Reader" "place" "I") ∈ lw_all := lw_g (lw_at lw_m2 119 rfl) rfl
theorem q497 : (Jvm.Cond.fieldLink "MovedSpan$Reader" (191 : Nat) "MovedSpan$Reader" "isWalks" "Z") ∈ lw_all := lw_g (lw_at lw_m2 121 rfl) rfl
theorem q498 : (Jvm.Cond.fieldLink "MovedSpan$Reader" (3 : Nat) "MovedSpan$Reader" "this$0" "LMovedSpan;") ∈ lw_all := lw_g (lw_at lw_m2 122 rfl) rfl
theorem q499 : (Jvm.Cond.laysFinal "MovedSpan$Reader" "MovedSpan$Reader" "size" "I") ∈ lw_all := lw_g (lw_at lw_m2 123 rfl) rfl
theorem q500 : (Jvm.Cond.soleField "MovedSpan$Reader" "size") ∈ lw_all := lw_g (lw_at lw_m2 124 rfl) rfl
theorem q501 : (Jvm.Cond.laysFinal "MovedSpan$Reader" "MovedSpan$Reader" "made" "LMovedSpan$River;") ∈ lw_all := lw_g (lw_at lw_m2 125 rfl) rfl
theorem q502 : (Jvm.Cond.soleField "MovedSpan$Reader" "made") ∈ lw_all := lw_g (lw_at lw_m2 126 rfl) rfl
theorem q503 : (Jvm.Cond.lays "MovedSpan$Reader" "MovedSpan$Reader" "at" "I") ∈ lw_all := lw_g (lw_at lw_m2 127 rfl) rfl
theorem q504 : (Jvm.Cond.soleField "MovedSpan$Reader" "at") ∈ lw_all := lw_g (lw_at lw_m2 128 rfl) rfl
theorem q505 : (Jvm.Cond.lays "MovedSpan$Reader" "MovedSpan$Reader" "begin" "I") ∈ lw_all := lw_g (lw_at lw_m2 129 rfl) rfl
theorem q506 : (Jvm.Cond.soleField "MovedSpan$Reader" "begin") ∈ lw_all := lw_g (lw_at lw_m2 130 rfl) rfl
theorem q507 : (Jvm.Cond.lays "MovedSpan$Reader" "MovedSpan$Reader" "token" "I") ∈ lw_all := lw_g (lw_at lw_m2 131 rfl) rfl
theorem q508 : (Jvm.Cond.soleField "MovedSpan$Reader" "token") ∈ lw_all := lw_g (lw_at lw_m2 132 rfl) rfl
theorem q509 : (Jvm.Cond.lays "MovedSpan$Reader" "MovedSpan$Reader" "value" "I") ∈ lw_all := lw_g (lw_at lw_m2 133 rfl) rfl
theorem q510 : (Jvm.Cond.soleField "MovedSpan$Reader" "value") ∈ lw_all := lw_g (lw_at lw_m2 134 rfl) rfl
theorem q511 : (Jvm.Cond.lays "MovedSpan$Reader" "MovedSpan$Reader" "fault" "I") ∈ lw_all := lw_g (lw_at lw_m2 135 rfl) rfl
theorem q512 : (Jvm.Cond.soleField "MovedSpan$Reader" "fault") ∈ lw_all := lw_g (lw_at lw_m2 136 rfl) rfl
theorem q513 : (Jvm.Cond.lays "MovedSpan$Reader" "MovedSpan$Reader" "deep" "I") ∈ lw_all := lw_g (lw_at lw_m2 137 rfl) rfl
theorem q514 : (Jvm.Cond.soleField "MovedSpan$Reader" "deep") ∈ lw_all := lw_g (lw_at lw_m2 138 rfl) rfl
theorem q515 : (Jvm.Cond.lays "MovedSpan$Reader" "MovedSpan$Reader" "place" "I") ∈ lw_all := lw_g (lw_at lw_m2 139 rfl) rfl
theorem q516 : (Jvm.Cond.soleField "MovedSpan$Reader" "place") ∈ lw_all := lw_g (lw_at lw_m2 140 rfl) rfl
theorem q517 : (Jvm.Cond.lays "MovedSpan$Reader" "MovedSpan$Reader" "isWalks" "Z") ∈ lw_all := lw_g (lw_at lw_m2 141 rfl) rfl
theorem q518 : (Jvm.Cond.soleField "MovedSpan$Reader" "isWalks") ∈ lw_all := lw_g (lw_at lw_m2 142 rfl) rfl
theorem q519 : (Jvm.Cond.laysFinal "MovedSpan$Reader" "MovedSpan$Reader" "this$0" "LMovedSpan;") ∈ lw_all := lw_g (lw_at lw_m2 143 rfl) rfl
theorem q520 : (Jvm.Cond.soleField "MovedSpan$Reader" "this$0") ∈ lw_all := lw_g (lw_at lw_m2 144 rfl) rfl
theorem q521 : (Jvm.Cond.superclass "MovedSpan$Reader" "java/lang/Object") ∈ lw_all := lw_g (lw_at lw_m2 145 rfl) rfl
theorem q523 : (Jvm.Cond.instanceMethod ({ cls := "MovedSpan$Reader", name := "read", desc := "()V" } : Jvm.MethodName)) ∈ lw_all := lw_g (lw_at lw_m2 147 rfl) rfl
theorem q524 : (Jvm.Cond.selects "MovedSpan$Reader" ({ cls := "MovedSpan$Reader", name := "read", desc := "()V" } : Jvm.MethodName) ({ cls := "MovedSpan$Reader", name := "read", desc := "()V" } : Jvm.MethodName)) ∈ lw_all := lw_g (lw_at lw_m2 148 rfl) rfl
theorem q525 : (Jvm.Cond.code ({ cls := "MovedSpan$Reader", name := "read", desc := "()V" } : Jvm.MethodName) prog_13_method_13_code (1 : Nat) (Option.none : Option Jvm.ClassFile.FieldType)) ∈ lw_all := lw_g (lw_at lw_m2 149 rfl) rfl
theorem q526 : (Jvm.Cond.methodLink "MovedSpan$Reader" (90 : Nat) ({ cls := "MovedSpan$Reader", name := "next", desc := "()V" } : Jvm.MethodName)) ∈ lw_all := lw_g (lw_at lw_m2 150 rfl) rfl
theorem q527 : (Jvm.Cond.privateMethod ({ cls := "MovedSpan$Reader", name := "next", desc := "()V" } : Jvm.MethodName)) ∈ lw_tbl := lw_at lw_m2 151 rfl
theorem q528 : (Jvm.Cond.instanceMethod ({ cls := "MovedSpan$Reader", name := "next", desc := "()V" } : Jvm.MethodName)) ∈ lw_all := lw_g (lw_at lw_m2 152 rfl) rfl
theorem q529 : (Jvm.Cond.code ({ cls := "MovedSpan$Reader", name := "next", desc := "()V" } : Jvm.MethodName) prog_13_method_5_code (1 : Nat) (Option.none : Option Jvm.ClassFile.FieldType)) ∈ lw_all := lw_g (lw_at lw_m2 153 rfl) rfl
theorem q530 : (Jvm.Cond.methodLink "MovedSpan$Reader" (33 : Nat) ({ cls := "MovedSpan$Reader", name := "see", desc := "(I)I" } : Jvm.MethodName)) ∈ lw_all := lw_g (lw_at lw_m2 154 rfl) rfl
theorem q531 : (Jvm.Cond.privateMethod ({ cls := "MovedSpan$Reader", name := "see", desc := "(I)I" } : Jvm.MethodName)) ∈ lw_tbl := lw_at lw_m2 155 rfl
theorem q532 : (Jvm.Cond.instanceMethod ({ cls := "MovedSpan$Reader", name := "see", desc := "(I)I" } : Jvm.MethodName)) ∈ lw_all := lw_g (lw_at lw_m2 156 rfl) rfl
theorem q533 : (Jvm.Cond.code ({ cls := "MovedSpan$Reader", name := "see", desc := "(I)I" } : Jvm.MethodName) prog_13_method_2_code (2 : Nat) (Option.some Jvm.ClassFile.FieldType.int)) ∈ lw_all := lw_g (lw_at lw_m2 157 rfl) rfl
theorem q534 : (Jvm.Cond.methodLink "MovedSpan$Reader" (58 : Nat) ({ cls := "MovedSpan$Reader", name := "isSmall", desc := "(I)Z" } : Jvm.MethodName)) ∈ lw_all := lw_g (lw_at lw_m2 158 rfl) rfl
theorem q535 : (Jvm.Cond.privateMethod ({ cls := "MovedSpan$Reader", name := "isSmall", desc := "(I)Z" } : Jvm.MethodName)) ∈ lw_tbl := lw_at lw_m2 159 rfl
theorem q536 : (Jvm.Cond.instanceMethod ({ cls := "MovedSpan$Reader", name := "isSmall", desc := "(I)Z" } : Jvm.MethodName)) ∈ lw_all := lw_g (lw_at lw_m2 160 rfl) rfl
theorem q537 : (Jvm.Cond.code ({ cls := "MovedSpan$Reader", name := "isSmall", desc := "(I)Z" } : Jvm.MethodName) prog_13_method_3_code (2 : Nat) (Option.some Jvm.ClassFile.FieldType.boolean)) ∈ lw_all := lw_g (lw_at lw_m2 161 rfl) rfl
theorem q538 : (Jvm.Cond.constantLong "MovedSpan$Reader" (37 : Nat) (97 : Int64)) ∈ lw_all := lw_g (lw_at lw_m2 162 rfl) rfl
theorem q539 : (Jvm.Cond.constantLong "MovedSpan$Reader" (39 : Nat) (122 : Int64)) ∈ lw_all := lw_g (lw_at lw_m2 163 rfl) rfl
theorem q540 : (Jvm.Cond.methodLinkNest "MovedSpan$Reader" (41 : Nat) ({ cls := "MovedSpan", name := "in", desc := "(JJJ)Z" } : Jvm.MethodName) "MovedSpan") ∈ lw_tbl := lw_at lw_m2 164 rfl
theorem q541 : (Jvm.Cond.methodLink "MovedSpan$Reader" (62 : Nat) ({ cls := "MovedSpan$Reader", name := "isDigit", desc := "(I)Z" } : Jvm.MethodName)) ∈ lw_all := lw_g (lw_at lw_m2 165 rfl) rfl
theorem q542 : (Jvm.Cond.privateMethod ({ cls := "MovedSpan$Reader", name := "isDigit", desc := "(I)Z" } : Jvm.MethodName)) ∈ lw_tbl := lw_at lw_m2 166 rfl
theorem q543 : (Jvm.Cond.instanceMethod ({ cls := "MovedSpan$Reader", name := "isDigit", desc := "(I)Z" } : Jvm.MethodName)) ∈ lw_all := lw_g (lw_at lw_m2 167 rfl) rfl
theorem q544 : (Jvm.Cond.code ({ cls := "MovedSpan$Reader", name := "isDigit", desc := "(I)Z" } : Jvm.MethodName) prog_13_method_4_code (2 : Nat) (Option.some Jvm.ClassFile.FieldType.boolean)) ∈ lw_all := lw_g (lw_at lw_m2 168 rfl) rfl
theorem q545 : (Jvm.Cond.constantLong "MovedSpan$Reader" (45 : Nat) (48 : Int64)) ∈ lw_all := lw_g (lw_at lw_m2 169 rfl) rfl
theorem q546 : (Jvm.Cond.constantLong "MovedSpan$Reader" (47 : Nat) (57 : Int64)) ∈ lw_all := lw_g (lw_at lw_m2 170 rfl) rfl
theorem q547 : (Jvm.Cond.stringRef "MovedSpan$Reader" (68 : Nat) ";:+-*()[]=<>") ∈ lw_tbl := lw_at lw_m2 171 rfl
theorem q548 : (Jvm.Cond.methodLink "MovedSpan$Reader" (70 : Nat) ({ cls := "java/lang/String", name := "indexOf", desc := "(I)I" } : Jvm.MethodName)) ∈ lw_all := lw_g (lw_at lw_m2 172 rfl) rfl
theorem q634 : (Jvm.Cond.stringRef "MovedSpan$Reader" (100 : Nat) "river") ∈ lw_tbl := lw_at lw_m3 18 rfl
theorem q635 : (Jvm.Cond.methodLink "MovedSpan$Reader" (102 : Nat) ({ cls := "MovedSpan$Reader", name := "mustWord", desc := "(Ljava/lang/String;)V" } : Jvm.MethodName)) ∈ lw_all := lw_g (lw_at lw_m3 19 rfl) rfl
theorem q636 : (Jvm.Cond.privateMethod ({ cls := "MovedSpan$Reader", name := "mustWord", desc := "(Ljava/lang/String;)V" } : Jvm.MethodName)) ∈ lw_tbl := lw_at lw_m3 20 rfl
theorem q637 : (Jvm.Cond.instanceMethod ({ cls := "MovedSpan$Reader", name := "mustWord", desc := "(Ljava/lang/String;)V" } : Jvm.MethodName)) ∈ lw_all := lw_g (lw_at lw_m3 21 rfl) rfl
theorem q638 : (Jvm.Cond.code ({ cls := "MovedSpan$Reader", name := "mustWord", desc := "(Ljava/lang/String;)V" } : Jvm.MethodName) prog_13_method_11_code (2 : Nat) (Option.none : Option Jvm.ClassFile.FieldType)) ∈ lw_all := lw_g (lw_at lw_m3 22 rfl) rfl
theorem q639 : (Jvm.Cond.methodLink "MovedSpan$Reader" (97 : Nat) ({ cls := "MovedSpan$Reader", name := "takes", desc := "(Ljava/lang/String;)Z" } : Jvm.MethodName)) ∈ lw_all := lw_g (lw_at lw_m3 23 rfl) rfl
theorem q640 : (Jvm.Cond.privateMethod ({ cls := "MovedSpan$Reader", name := "takes", desc := "(Ljava/lang/String;)Z" } : Jvm.MethodName)) ∈ lw_tbl := lw_at lw_m3 24 rfl
theorem q641 : (Jvm.Cond.instanceMethod ({ cls := "MovedSpan$Reader", name := "takes", desc := "(Ljava/lang/String;)Z" } : Jvm.MethodName)) ∈ lw_all := lw_g (lw_at lw_m3 25 rfl) rfl
theorem q642 : (Jvm.Cond.code ({ cls := "MovedSpan$Reader", name := "takes", desc := "(Ljava/lang/String;)Z" } : Jvm.MethodName) prog_13_method_8_code (2 : Nat) (Option.some Jvm.ClassFile.FieldType.boolean)) ∈ lw_all := lw_g (lw_at lw_m3 26 rfl) rfl
theorem q643 : (Jvm.Cond.methodLink "MovedSpan$Reader" (86 : Nat) ({ cls := "MovedSpan$Reader", name := "is", desc := "(Ljava/lang/String;)Z" } : Jvm.MethodName)) ∈ lw_all := lw_g (lw_at lw_m3 27 rfl) rfl
theorem q644 : (Jvm.Cond.privateMethod ({ cls := "MovedSpan$Reader", name := "is", desc := "(Ljava/lang/String;)Z" } : Jvm.MethodName)) ∈ lw_tbl := lw_at lw_m3 28 rfl
theorem q645 : (Jvm.Cond.instanceMethod ({ cls := "MovedSpan$Reader", name := "is", desc := "(Ljava/lang/String;)Z" } : Jvm.MethodName)) ∈ lw_all := lw_g (lw_at lw_m3 29 rfl) rfl
theorem q646 : (Jvm.Cond.code ({ cls := "MovedSpan$Reader", name := "is", desc := "(Ljava/lang/String;)Z" } : Jvm.MethodName) prog_13_method_7_code (3 : Nat) (Option.some Jvm.ClassFile.FieldType.boolean)) ∈ lw_all := lw_g (lw_at lw_m3 30 rfl) rfl
theorem q647 : (Jvm.Cond.methodLink "MovedSpan$Reader" (78 : Nat) ({ cls := "java/lang/String", name := "length", desc := "()I" } : Jvm.MethodName)) ∈ lw_all := lw_g (lw_at lw_m3 31 rfl) rfl
theorem q648 : (Jvm.Cond.methodLink "MovedSpan$Reader" (82 : Nat) ({ cls := "java/lang/String", name := "charAt", desc := "(I)C" } : Jvm.MethodName)) ∈ lw_all := lw_g (lw_at lw_m3 32 rfl) rfl
theorem q668 : (Jvm.Cond.methodLink "MovedSpan$Reader" (93 : Nat) ({ cls := "MovedSpan$Reader", name := "wrong", desc := "(I)V" } : Jvm.MethodName)) ∈ lw_all := lw_g (lw_at lw_m3 52 rfl) rfl
theorem q669 : (Jvm.Cond.privateMethod ({ cls := "MovedSpan$Reader", name := "wrong", desc := "(I)V" } : Jvm.MethodName)) ∈ lw_tbl := lw_at lw_m3 53 rfl
theorem q670 : (Jvm.Cond.instanceMethod ({ cls := "MovedSpan$Reader", name := "wrong", desc := "(I)V" } : Jvm.MethodName)) ∈ lw_all := lw_g (lw_at lw_m3 54 rfl) rfl
theorem q671 : (Jvm.Cond.code ({ cls := "MovedSpan$Reader", name := "wrong", desc := "(I)V" } : Jvm.MethodName) prog_13_method_6_code (2 : Nat) (Option.none : Option Jvm.ClassFile.FieldType)) ∈ lw_all := lw_g (lw_at lw_m3 55 rfl) rfl
theorem q672 : (Jvm.Cond.methodLink "MovedSpan$Reader" (106 : Nat) ({ cls := "MovedSpan$Reader", name := "number", desc := "(II)I" } : Jvm.MethodName)) ∈ lw_all := lw_g (lw_at lw_m3 56 rfl) rfl
theorem q673 : (Jvm.Cond.privateMethod ({ cls := "MovedSpan$Reader", name := "number", desc := "(II)I" } : Jvm.MethodName)) ∈ lw_tbl := lw_at lw_m3 57 rfl
theorem q674 : (Jvm.Cond.instanceMethod ({ cls := "MovedSpan$Reader", name := "number", desc := "(II)I" } : Jvm.MethodName)) ∈ lw_all := lw_g (lw_at lw_m3 58 rfl) rfl
theorem q675 : (Jvm.Cond.code ({ cls := "MovedSpan$Reader", name := "number", desc := "(II)I" } : Jvm.MethodName) prog_13_method_12_code (4 : Nat) (Option.some Jvm.ClassFile.FieldType.int)) ∈ lw_all := lw_g (lw_at lw_m3 59 rfl) rfl
theorem q676 : (Jvm.Cond.stringRef "MovedSpan$Reader" (113 : Nat) "week") ∈ lw_tbl := lw_at lw_m3 60 rfl
theorem q677 : (Jvm.Cond.methodLink "MovedSpan$Reader" (117 : Nat) ({ cls := "MovedSpan$Reader", name := "ends", desc := "()V" } : Jvm.MethodName)) ∈ lw_all := lw_g (lw_at lw_m3 61 rfl) rfl
theorem q678 : (Jvm.Cond.privateMethod ({ cls := "MovedSpan$Reader", name := "ends", desc := "()V" } : Jvm.MethodName)) ∈ lw_tbl := lw_at lw_m3 62 rfl
theorem q679 : (Jvm.Cond.instanceMethod ({ cls := "MovedSpan$Reader", name := "ends", desc := "()V" } : Jvm.MethodName)) ∈ lw_all := lw_g (lw_at lw_m3 63 rfl) rfl
theorem q680 : (Jvm.Cond.code ({ cls := "MovedSpan$Reader", name := "ends", desc := "()V" } : Jvm.MethodName) prog_13_method_14_code (1 : Nat) (Option.none : Option Jvm.ClassFile.FieldType)) ∈ lw_all := lw_g (lw_at lw_m3 64 rfl) rfl
theorem q681 : (Jvm.Cond.methodLink "MovedSpan$Reader" (123 : Nat) ({ cls := "MovedSpan$Reader", name := "must", desc := "(I)V" } : Jvm.MethodName)) ∈ lw_all := lw_g (lw_at lw_m3 65 rfl) rfl
theorem q682 : (Jvm.Cond.privateMethod ({ cls := "MovedSpan$Reader", name := "must", desc := "(I)V" } : Jvm.MethodName)) ∈ lw_tbl := lw_at lw_m3 66 rfl
theorem q683 : (Jvm.Cond.instanceMethod ({ cls := "MovedSpan$Reader", name := "must", desc := "(I)V" } : Jvm.MethodName)) ∈ lw_all := lw_g (lw_at lw_m3 67 rfl) rfl
theorem q684 : (Jvm.Cond.code ({ cls := "MovedSpan$Reader", name := "must", desc := "(I)V" } : Jvm.MethodName) prog_13_method_10_code (2 : Nat) (Option.none : Option Jvm.ClassFile.FieldType)) ∈ lw_all := lw_g (lw_at lw_m3 68 rfl) rfl
theorem q685 : (Jvm.Cond.methodLink "MovedSpan$Reader" (120 : Nat) ({ cls := "MovedSpan$Reader", name := "line", desc := "()V" } : Jvm.MethodName)) ∈ lw_all := lw_g (lw_at lw_m3 69 rfl) rfl
theorem q686 : (Jvm.Cond.privateMethod ({ cls := "MovedSpan$Reader", name := "line", desc := "()V" } : Jvm.MethodName)) ∈ lw_tbl := lw_at lw_m3 70 rfl
theorem q687 : (Jvm.Cond.instanceMethod ({ cls := "MovedSpan$Reader", name := "line", desc := "()V" } : Jvm.MethodName)) ∈ lw_all := lw_g (lw_at lw_m3 71 rfl) rfl
theorem q688 : (Jvm.Cond.code ({ cls := "MovedSpan$Reader", name := "line", desc := "()V" } : Jvm.MethodName) prog_13_method_15_code (1 : Nat) (Option.none : Option Jvm.ClassFile.FieldType)) ∈ lw_all := lw_g (lw_at lw_m3 72 rfl) rfl
theorem q689 : (Jvm.Cond.stringRef "MovedSpan$Reader" (129 : Nat) "span") ∈ lw_tbl := lw_at lw_m3 73 rfl
theorem q690 : (Jvm.Cond.methodLink "MovedSpan$Reader" (131 : Nat) ({ cls := "MovedSpan$Reader", name := "span", desc := "()V" } : Jvm.MethodName)) ∈ lw_all := lw_g (lw_at lw_m3 74 rfl) rfl
theorem q691 : (Jvm.Cond.privateMethod ({ cls := "MovedSpan$Reader", name := "span", desc := "()V" } : Jvm.MethodName)) ∈ lw_tbl := lw_at lw_m3 75 rfl
theorem q692 : (Jvm.Cond.instanceMethod ({ cls := "MovedSpan$Reader", name := "span", desc := "()V" } : Jvm.MethodName)) ∈ lw_all := lw_g (lw_at lw_m3 76 rfl) rfl
theorem q693 : (Jvm.Cond.code ({ cls := "MovedSpan$Reader", name := "span", desc := "()V" } : Jvm.MethodName) prog_13_method_16_code (3 : Nat) (Option.none : Option Jvm.ClassFile.FieldType)) ∈ lw_all := lw_g (lw_at lw_m3 77 rfl) rfl
theorem q694 : (Jvm.Cond.stringRef "MovedSpan$Reader" (153 : Nat) "rest") ∈ lw_tbl := lw_at lw_m3 78 rfl
theorem q695 : (Jvm.Cond.stringRef "MovedSpan$Reader" (155 : Nat) "at") ∈ lw_tbl := lw_at lw_m3 79 rfl
theorem q696 : (Jvm.Cond.stringRef "MovedSpan$Reader" (133 : Nat) "person") ∈ lw_tbl := lw_at lw_m3 80 rfl
theorem q697 : (Jvm.Cond.methodLink "MovedSpan$Reader" (135 : Nat) ({ cls := "MovedSpan$Reader", name := "person", desc := "()V" } : Jvm.MethodName)) ∈ lw_all := lw_g (lw_at lw_m3 81 rfl) rfl
theorem q698 : (Jvm.Cond.privateMethod ({ cls := "MovedSpan$Reader", name := "person", desc := "()V" } : Jvm.MethodName)) ∈ lw_tbl := lw_at lw_m3 82 rfl
theorem q699 : (Jvm.Cond.instanceMethod ({ cls := "MovedSpan$Reader", name := "person", desc := "()V" } : Jvm.MethodName)) ∈ lw_all := lw_g (lw_at lw_m3 83 rfl) rfl
theorem q700 : (Jvm.Cond.code ({ cls := "MovedSpan$Reader", name := "person", desc := "()V" } : Jvm.MethodName) prog_13_method_18_code (2 : Nat) (Option.none : Option Jvm.ClassFile.FieldType)) ∈ lw_all := lw_g (lw_at lw_m3 84 rfl) rfl
theorem q701 : (Jvm.Cond.methodLink "MovedSpan$Reader" (169 : Nat) ({ cls := "MovedSpan$Reader", name := "spot", desc := "()I" } : Jvm.MethodName)) ∈ lw_all := lw_g (lw_at lw_m3 85 rfl) rfl
theorem q702 : (Jvm.Cond.privateMethod ({ cls := "MovedSpan$Reader", name := "spot", desc := "()I" } : Jvm.MethodName)) ∈ lw_tbl := lw_at lw_m3 86 rfl
theorem q703 : (Jvm.Cond.instanceMethod ({ cls := "MovedSpan$Reader", name := "spot", desc := "()I" } : Jvm.MethodName)) ∈ lw_all := lw_g (lw_at lw_m3 87 rfl) rfl
theorem q704 : (Jvm.Cond.code ({ cls := "MovedSpan$Reader", name := "spot", desc := "()I" } : Jvm.MethodName) prog_13_method_17_code (2 : Nat) (Option.some Jvm.ClassFile.FieldType.int)) ∈ lw_all := lw_g (lw_at lw_m3 88 rfl) rfl
theorem q705 : (Jvm.Cond.stringRef "MovedSpan$Reader" (160 : Nat) "west") ∈ lw_tbl := lw_at lw_m3 89 rfl
theorem q706 : (Jvm.Cond.stringRef "MovedSpan$Reader" (162 : Nat) "east") ∈ lw_tbl := lw_at lw_m3 90 rfl
theorem q707 : (Jvm.Cond.methodLink "MovedSpan$Reader" (178 : Nat) ({ cls := "MovedSpan$Reader", name := "flag", desc := "(I)Z" } : Jvm.MethodName)) ∈ lw_all := lw_g (lw_at lw_m3 91 rfl) rfl
theorem q708 : (Jvm.Cond.privateMethod ({ cls := "MovedSpan$Reader", name := "flag", desc := "(I)Z" } : Jvm.MethodName)) ∈ lw_tbl := lw_at lw_m3 92 rfl
theorem q709 : (Jvm.Cond.instanceMethod ({ cls := "MovedSpan$Reader", name := "flag", desc := "(I)Z" } : Jvm.MethodName)) ∈ lw_all := lw_g (lw_at lw_m3 93 rfl) rfl
theorem q710 : (Jvm.Cond.code ({ cls := "MovedSpan$Reader", name := "flag", desc := "(I)Z" } : Jvm.MethodName) prog_13_method_19_code (2 : Nat) (Option.some Jvm.ClassFile.FieldType.boolean)) ∈ lw_all := lw_g (lw_at lw_m3 94 rfl) rfl
theorem q711 : (Jvm.Cond.stringRef "MovedSpan$Reader" (181 : Nat) "load") ∈ lw_tbl := lw_at lw_m3 95 rfl
theorem q712 : (Jvm.Cond.stringRef "MovedSpan$Reader" (185 : Nat) "to") ∈ lw_tbl := lw_at lw_m3 96 rfl
theorem q713 : (Jvm.Cond.methodLink "MovedSpan$Reader" (187 : Nat) ({ cls := "MovedSpan$Reader", name := "errand", desc := "(I)V" } : Jvm.MethodName)) ∈ lw_all := lw_g (lw_at lw_m3 97 rfl) rfl
theorem q714 : (Jvm.Cond.privateMethod ({ cls := "MovedSpan$Reader", name := "errand", desc := "(I)V" } : Jvm.MethodName)) ∈ lw_tbl := lw_at lw_m3 98 rfl
theorem q715 : (Jvm.Cond.instanceMethod ({ cls := "MovedSpan$Reader", name := "errand", desc := "(I)V" } : Jvm.MethodName)) ∈ lw_all := lw_g (lw_at lw_m3 99 rfl) rfl
theorem q716 : (Jvm.Cond.code ({ cls := "MovedSpan$Reader", name := "errand", desc := "(I)V" } : Jvm.MethodName) prog_13_method_20_code (4 : Nat) (Option.none : Option Jvm.ClassFile.FieldType)) ∈ lw_all := lw_g (lw_at lw_m3 100 rfl) rfl
theorem q717 : (Jvm.Cond.stringRef "MovedSpan$Reader" (190 : Nat) "by") ∈ lw_tbl := lw_at lw_m3 101 rfl
theorem q718 : (Jvm.Cond.stringRef "MovedSpan$Reader" (137 : Nat) "walks") ∈ lw_tbl := lw_at lw_m3 102 rfl
theorem q719 : (Jvm.Cond.methodLink "MovedSpan$Reader" (139 : Nat) ({ cls := "MovedSpan$Reader", name := "walks", desc := "()V" } : Jvm.MethodName)) ∈ lw_all := lw_g (lw_at lw_m3 103 rfl) rfl
theorem q720 : (Jvm.Cond.privateMethod ({ cls := "MovedSpan$Reader", name := "walks", desc := "()V" } : Jvm.MethodName)) ∈ lw_tbl := lw_at lw_m3 104 rfl
theorem q721 : (Jvm.Cond.instanceMethod ({ cls := "MovedSpan$Reader", name := "walks", desc := "()V" } : Jvm.MethodName)) ∈ lw_all := lw_g (lw_at lw_m3 105 rfl) rfl
theorem q722 : (Jvm.Cond.code ({ cls := "MovedSpan$Reader", name := "walks", desc := "()V" } : Jvm.MethodName) prog_13_method_21_code (2 : Nat) (Option.none : Option Jvm.ClassFile.FieldType)) ∈ lw_all := lw_g (lw_at lw_m3 106 rfl) rfl
theorem q723 : (Jvm.Cond.methodLink "MovedSpan$Reader" (195 : Nat) ({ cls := "MovedSpan$Reader", name := "truth", desc := "()LMovedSpan$Truth;" } : Jvm.MethodName)) ∈ lw_all := lw_g (lw_at lw_m3 107 rfl) rfl
theorem q724 : (Jvm.Cond.privateMethod ({ cls := "MovedSpan$Reader", name := "truth", desc := "()LMovedSpan$Truth;" } : Jvm.MethodName)) ∈ lw_tbl := lw_at lw_m3 108 rfl
theorem q725 : (Jvm.Cond.instanceMethod ({ cls := "MovedSpan$Reader", name := "truth", desc := "()LMovedSpan$Truth;" } : Jvm.MethodName)) ∈ lw_all := lw_g (lw_at lw_m3 109 rfl) rfl
theorem q726 : (Jvm.Cond.code ({ cls := "MovedSpan$Reader", name := "truth", desc := "()LMovedSpan$Truth;" } : Jvm.MethodName) prog_13_method_24_code (2 : Nat) (Option.some (Jvm.ClassFile.FieldType.object "MovedSpan$Truth"))) ∈ lw_all := lw_g (lw_at lw_m3 110 rfl) rfl
theorem q727 : (Jvm.Cond.methodLink "MovedSpan$Reader" (207 : Nat) ({ cls := "MovedSpan$Reader", name := "both", desc := "()LMovedSpan$Truth;" } : Jvm.MethodName)) ∈ lw_all := lw_g (lw_at lw_m3 111 rfl) rfl
theorem q728 : (Jvm.Cond.privateMethod ({ cls := "MovedSpan$Reader", name := "both", desc := "()LMovedSpan$Truth;" } : Jvm.MethodName)) ∈ lw_tbl := lw_at lw_m3 112 rfl
theorem q729 : (Jvm.Cond.instanceMethod ({ cls := "MovedSpan$Reader", name := "both", desc := "()LMovedSpan$Truth;" } : Jvm.MethodName)) ∈ lw_all := lw_g (lw_at lw_m3 113 rfl) rfl
theorem q730 : (Jvm.Cond.code ({ cls := "MovedSpan$Reader", name := "both", desc := "()LMovedSpan$Truth;" } : Jvm.MethodName) prog_13_method_25_code (2 : Nat) (Option.some (Jvm.ClassFile.FieldType.object "MovedSpan$Truth"))) ∈ lw_all := lw_g (lw_at lw_m3 114 rfl) rfl
theorem q731 : (Jvm.Cond.methodLink "MovedSpan$Reader" (217 : Nat) ({ cls := "MovedSpan$Reader", name := "unit", desc := "()LMovedSpan$Truth;" } : Jvm.MethodName)) ∈ lw_all := lw_g (lw_at lw_m3 115 rfl) rfl
theorem q732 : (Jvm.Cond.privateMethod ({ cls := "MovedSpan$Reader", name := "unit", desc := "()LMovedSpan$Truth;" } : Jvm.MethodName)) ∈ lw_tbl := lw_at lw_m3 116 rfl
theorem q733 : (Jvm.Cond.instanceMethod ({ cls := "MovedSpan$Reader", name := "unit", desc := "()LMovedSpan$Truth;" } : Jvm.MethodName)) ∈ lw_all := lw_g (lw_at lw_m3 117 rfl) rfl
theorem q734 : (Jvm.Cond.code ({ cls := "MovedSpan$Reader", name := "unit", desc := "()LMovedSpan$Truth;" } : Jvm.MethodName) prog_13_method_26_code (3 : Nat) (Option.some (Jvm.ClassFile.FieldType.object "MovedSpan$Truth"))) ∈ lw_all := lw_g (lw_at lw_m3 118 rfl) rfl
theorem q735 : (Jvm.Cond.stringRef "MovedSpan$Reader" (222 : Nat) "not") ∈ lw_tbl := lw_at lw_m3 119 rfl
theorem q736 : (Jvm.Cond.methodLink "MovedSpan$Reader" (224 : Nat) ({ cls := "MovedSpan$Reader", name := "goesIn", desc := "()V" } : Jvm.MethodName)) ∈ lw_all := lw_g (lw_at lw_m3 120 rfl) rfl
theorem q737 : (Jvm.Cond.privateMethod ({ cls := "MovedSpan$Reader", name := "goesIn", desc := "()V" } : Jvm.MethodName)) ∈ lw_tbl := lw_at lw_m3 121 rfl
theorem q738 : (Jvm.Cond.instanceMethod ({ cls := "MovedSpan$Reader", name := "goesIn", desc := "()V" } : Jvm.MethodName)) ∈ lw_all := lw_g (lw_at lw_m3 122 rfl) rfl
theorem q739 : (Jvm.Cond.code ({ cls := "MovedSpan$Reader", name := "goesIn", desc := "()V" } : Jvm.MethodName) prog_13_method_23_code (1 : Nat) (Option.none : Option Jvm.ClassFile.FieldType)) ∈ lw_all := lw_g (lw_at lw_m3 123 rfl) rfl
theorem q740 : (Jvm.Cond.classLink "MovedSpan$Reader" (227 : Nat) "MovedSpan$Not") ∈ lw_all := lw_g (lw_at lw_m3 124 rfl) rfl
theorem q742 : (Jvm.Cond.methodLink "MovedSpan$Reader" (229 : Nat) ({ cls := "MovedSpan$Not", name := "<init>", desc := "(LMovedSpan$Truth;)V" } : Jvm.MethodName)) ∈ lw_all := lw_g (lw_at lw_m3 126 rfl) rfl
theorem q753 : (Jvm.Cond.methodLink "MovedSpan$Reader" (232 : Nat) ({ cls := "MovedSpan$Reader", name := "isSign", desc := "(I)Z" } : Jvm.MethodName)) ∈ lw_all := lw_g (lw_at lw_m3 137 rfl) rfl
theorem q754 : (Jvm.Cond.privateMethod ({ cls := "MovedSpan$Reader", name := "isSign", desc := "(I)Z" } : Jvm.MethodName)) ∈ lw_tbl := lw_at lw_m3 138 rfl
theorem q755 : (Jvm.Cond.instanceMethod ({ cls := "MovedSpan$Reader", name := "isSign", desc := "(I)Z" } : Jvm.MethodName)) ∈ lw_all := lw_g (lw_at lw_m3 139 rfl) rfl
theorem q756 : (Jvm.Cond.code ({ cls := "MovedSpan$Reader", name := "isSign", desc := "(I)Z" } : Jvm.MethodName) prog_13_method_9_code (2 : Nat) (Option.some Jvm.ClassFile.FieldType.boolean)) ∈ lw_all := lw_g (lw_at lw_m3 140 rfl) rfl
theorem q757 : (Jvm.Cond.methodLink "MovedSpan$Reader" (235 : Nat) ({ cls := "MovedSpan$Reader", name := "sum", desc := "()LMovedSpan$Sum;" } : Jvm.MethodName)) ∈ lw_all := lw_g (lw_at lw_m3 141 rfl) rfl
theorem q758 : (Jvm.Cond.privateMethod ({ cls := "MovedSpan$Reader", name := "sum", desc := "()LMovedSpan$Sum;" } : Jvm.MethodName)) ∈ lw_tbl := lw_at lw_m3 142 rfl
theorem q759 : (Jvm.Cond.instanceMethod ({ cls := "MovedSpan$Reader", name := "sum", desc := "()LMovedSpan$Sum;" } : Jvm.MethodName)) ∈ lw_all := lw_g (lw_at lw_m3 143 rfl) rfl
theorem q760 : (Jvm.Cond.code ({ cls := "MovedSpan$Reader", name := "sum", desc := "()LMovedSpan$Sum;" } : Jvm.MethodName) prog_13_method_27_code (3 : Nat) (Option.some (Jvm.ClassFile.FieldType.object "MovedSpan$Sum"))) ∈ lw_all := lw_g (lw_at lw_m3 144 rfl) rfl
theorem q761 : (Jvm.Cond.methodLink "MovedSpan$Reader" (244 : Nat) ({ cls := "MovedSpan$Reader", name := "term", desc := "()LMovedSpan$Sum;" } : Jvm.MethodName)) ∈ lw_all := lw_g (lw_at lw_m3 145 rfl) rfl
theorem q762 : (Jvm.Cond.privateMethod ({ cls := "MovedSpan$Reader", name := "term", desc := "()LMovedSpan$Sum;" } : Jvm.MethodName)) ∈ lw_tbl := lw_at lw_m3 146 rfl
theorem q763 : (Jvm.Cond.instanceMethod ({ cls := "MovedSpan$Reader", name := "term", desc := "()LMovedSpan$Sum;" } : Jvm.MethodName)) ∈ lw_all := lw_g (lw_at lw_m3 147 rfl) rfl
theorem q764 : (Jvm.Cond.code ({ cls := "MovedSpan$Reader", name := "term", desc := "()LMovedSpan$Sum;" } : Jvm.MethodName) prog_13_method_28_code (2 : Nat) (Option.some (Jvm.ClassFile.FieldType.object "MovedSpan$Sum"))) ∈ lw_all := lw_g (lw_at lw_m3 148 rfl) rfl
theorem q765 : (Jvm.Cond.methodLink "MovedSpan$Reader" (250 : Nat) ({ cls := "MovedSpan$Reader", name := "atom", desc := "()LMovedSpan$Sum;" } : Jvm.MethodName)) ∈ lw_all := lw_g (lw_at lw_m3 149 rfl) rfl
theorem q766 : (Jvm.Cond.privateMethod ({ cls := "MovedSpan$Reader", name := "atom", desc := "()LMovedSpan$Sum;" } : Jvm.MethodName)) ∈ lw_tbl := lw_at lw_m3 150 rfl
theorem q767 : (Jvm.Cond.instanceMethod ({ cls := "MovedSpan$Reader", name := "atom", desc := "()LMovedSpan$Sum;" } : Jvm.MethodName)) ∈ lw_all := lw_g (lw_at lw_m3 151 rfl) rfl
theorem q768 : (Jvm.Cond.code ({ cls := "MovedSpan$Reader", name := "atom", desc := "()LMovedSpan$Sum;" } : Jvm.MethodName) prog_13_method_30_code (3 : Nat) (Option.some (Jvm.ClassFile.FieldType.object "MovedSpan$Sum"))) ∈ lw_all := lw_g (lw_at lw_m3 152 rfl) rfl
theorem q769 : (Jvm.Cond.methodLink "MovedSpan$Reader" (261 : Nat) ({ cls := "MovedSpan$Reader", name := "word", desc := "()I" } : Jvm.MethodName)) ∈ lw_all := lw_g (lw_at lw_m3 153 rfl) rfl
theorem q770 : (Jvm.Cond.privateMethod ({ cls := "MovedSpan$Reader", name := "word", desc := "()I" } : Jvm.MethodName)) ∈ lw_tbl := lw_at lw_m3 154 rfl
theorem q771 : (Jvm.Cond.instanceMethod ({ cls := "MovedSpan$Reader", name := "word", desc := "()I" } : Jvm.MethodName)) ∈ lw_all := lw_g (lw_at lw_m3 155 rfl) rfl
theorem q772 : (Jvm.Cond.code ({ cls := "MovedSpan$Reader", name := "word", desc := "()I" } : Jvm.MethodName) prog_13_method_29_code (1 : Nat) (Option.some Jvm.ClassFile.FieldType.int)) ∈ lw_all := lw_g (lw_at lw_m3 156 rfl) rfl
theorem q773 : (Jvm.Cond.stringRef "MovedSpan$Reader" (253 : Nat) "gap") ∈ lw_tbl := lw_at lw_m3 157 rfl
theorem q774 : (Jvm.Cond.stringRef "MovedSpan$Reader" (149 : Nat) "hour") ∈ lw_tbl := lw_at lw_m3 158 rfl
theorem q775 : (Jvm.Cond.stringRef "MovedSpan$Reader" (255 : Nat) "who") ∈ lw_tbl := lw_at lw_m3 159 rfl
theorem q776 : (Jvm.Cond.stringRef "MovedSpan$Reader" (257 : Nat) "fog") ∈ lw_tbl := lw_at lw_m3 160 rfl
theorem q777 : (Jvm.Cond.stringRef "MovedSpan$Reader" (259 : Nat) "side") ∈ lw_tbl := lw_at lw_m3 161 rfl
theorem q778 : (Jvm.Cond.classLink "MovedSpan$Reader" (264 : Nat) "MovedSpan$Known") ∈ lw_all := lw_g (lw_at lw_m3 162 rfl) rfl
theorem q780 : (Jvm.Cond.methodLink "MovedSpan$Reader" (266 : Nat) ({ cls := "MovedSpan$Known", name := "<init>", desc := "(I)V" } : Jvm.MethodName)) ∈ lw_all := lw_g (lw_at lw_m3 164 rfl) rfl
theorem q791 : (Jvm.Cond.classLink "MovedSpan$Reader" (268 : Nat) "MovedSpan$Plain") ∈ lw_all := lw_g (lw_at lw_m3 175 rfl) rfl
theorem q793 : (Jvm.Cond.methodLink "MovedSpan$Reader" (270 : Nat) ({ cls := "MovedSpan$Plain", name := "<init>", desc := "(I)V" } : Jvm.MethodName)) ∈ lw_all := lw_g (lw_at lw_m3 177 rfl) rfl
theorem q801 : (Jvm.Cond.classLink "MovedSpan$Reader" (247 : Nat) "MovedSpan$Pair") ∈ lw_all := lw_g (lw_at lw_m3 185 rfl) rfl
theorem q803 : (Jvm.Cond.methodLink "MovedSpan$Reader" (249 : Nat) ({ cls := "MovedSpan$Pair", name := "<init>", desc := "(LMovedSpan$Sum;ILMovedSpan$Sum;)V" } : Jvm.MethodName)) ∈ lw_all := lw_g (lw_at lw_m3 187 rfl) rfl
theorem q817 : (Jvm.Cond.classLink "MovedSpan$Reader" (239 : Nat) "MovedSpan$Compare") ∈ lw_all := lw_g (lw_at lw_m3 201 rfl) rfl
theorem q819 : (Jvm.Cond.methodLink "MovedSpan$Reader" (241 : Nat) ({ cls := "MovedSpan$Compare", name := "<init>", desc := "(LMovedSpan$Sum;ILMovedSpan$Sum;)V" } : Jvm.MethodName)) ∈ lw_all := lw_g (lw_at lw_m3 203 rfl) rfl
theorem q833 : (Jvm.Cond.stringRef "MovedSpan$Reader" (220 : Nat) "and") ∈ lw_tbl := lw_at lw_m3 217 rfl
theorem q834 : (Jvm.Cond.classLink "MovedSpan$Reader" (212 : Nat) "MovedSpan$Both") ∈ lw_all := lw_g (lw_at lw_m3 218 rfl) rfl
theorem q836 : (Jvm.Cond.methodLink "MovedSpan$Reader" (214 : Nat) ({ cls := "MovedSpan$Both", name := "<init>", desc := "(LMovedSpan$Truth;ZLMovedSpan$Truth;)V" } : Jvm.MethodName)) ∈ lw_all := lw_g (lw_at lw_m3 220 rfl) rfl
theorem q850 : (Jvm.Cond.stringRef "MovedSpan$Reader" (210 : Nat) "or") ∈ lw_tbl := lw_at lw_m3 234 rfl
theorem q851 : (Jvm.Cond.stringRef "MovedSpan$Reader" (141 : Nat) "serves") ∈ lw_tbl := lw_at lw_m3 235 rfl
theorem q852 : (Jvm.Cond.methodLink "MovedSpan$Reader" (143 : Nat) ({ cls := "MovedSpan$Reader", name := "serves", desc := "()V" } : Jvm.MethodName)) ∈ lw_all := lw_g (lw_at lw_m3 236 rfl) rfl
theorem q853 : (Jvm.Cond.privateMethod ({ cls := "MovedSpan$Reader", name := "serves", desc := "()V" } : Jvm.MethodName)) ∈ lw_tbl := lw_at lw_m3 237 rfl
theorem q854 : (Jvm.Cond.instanceMethod ({ cls := "MovedSpan$Reader", name := "serves", desc := "()V" } : Jvm.MethodName)) ∈ lw_all := lw_g (lw_at lw_m3 238 rfl) rfl
theorem q855 : (Jvm.Cond.code ({ cls := "MovedSpan$Reader", name := "serves", desc := "()V" } : Jvm.MethodName) prog_13_method_22_code (2 : Nat) (Option.none : Option Jvm.ClassFile.FieldType)) ∈ lw_all := lw_g (lw_at lw_m3 239 rfl) rfl
theorem q856 : (Jvm.Cond.stringRef "MovedSpan$Reader" (145 : Nat) "foggy") ∈ lw_tbl := lw_at lw_m4 0 rfl
theorem in_X10 : ∀ w ∈ wsX100, w ∈ lw_all := lw_in wsX100 [499, 501, 503, 505, 507, 509, 511, 513, 515, 517, 519] (by decide +kernel) (by decide +kernel)
abbrev cX11_init : ByteArray := prog_17_method_1_code
def RX11 : String := "MovedSpan$Truth"
def yX11_init : MethodName := ⟨RX11, "<init>", "()V"⟩
theorem q155 : (Jvm.Cond.initialized "MovedSpan$Truth") ∈ lw_all := lw_g (lw_at lw_m1 19 rfl) rfl
theorem q746 : (Jvm.Cond.instanceMethod ({ cls := "MovedSpan$Truth", name := "<init>", desc := "()V" } : Jvm.MethodName)) ∈ lw_all := lw_g (lw_at lw_m3 130 rfl) rfl
theorem q747 : (Jvm.Cond.code ({ cls := "MovedSpan$Truth", name := "<init>", desc := "()V" } : Jvm.MethodName) prog_17_method_1_code (1 : Nat) (Option.none : Option Jvm.ClassFile.FieldType)) ∈ lw_all := lw_g (lw_at lw_m3 131 rfl) rfl
theorem q748 : (Jvm.Cond.methodLink "MovedSpan$Truth" (1 : Nat) ({ cls := "java/lang/Object", name := "<init>", desc := "()V" } : Jvm.MethodName)) ∈ lw_all := lw_g (lw_at lw_m3 132 rfl) rfl
theorem q948 : (Jvm.Cond.declares ({ cls := "MovedSpan$Truth", name := "holds", desc := "([I)Z" } : Jvm.MethodName)) ∈ lw_tbl := lw_at lw_m4 92 rfl
theorem q949 : (Jvm.Cond.sameMethod "MovedSpan$Truth" "MovedSpan$Truth" "holds" "([I)Z") ∈ lw_all := lw_g (lw_at lw_m4 93 rfl) rfl
abbrev cX12_init : ByteArray := prog_9_method_1_code
abbrev cX12_holds : ByteArray := prog_9_method_2_code
def RX12 : String := "MovedSpan$Not"
def TX12 : u_T := fun k => match k with
  | _ => ("MovedSpan$Not", "one", "LMovedSpan$Truth;", true)
def tyX12 : Nat → FieldType := fun k => match k with
  | _ => .object "MovedSpan$Truth"
abbrev wsX120 : List Cond := u_ws RX12 TX12 1
theorem nmX12 : ∀ a, a < 1 → ∀ b, b < 1 → a ≠ b → (TX12 a).2.1 ≠ (TX12 b).2.1 := by decide +kernel
theorem tyX12_ok : ∀ k, k < 1 → parseFieldDescriptor (TX12 k).2.2.1 = some (tyX12 k) := by decide +kernel
def yX12_init : MethodName := ⟨RX12, "<init>", "(LMovedSpan$Truth;)V"⟩
def yX12_holds : MethodName := ⟨RX12, "holds", "([I)Z"⟩
theorem q156 : (Jvm.Cond.initialized "MovedSpan$Not") ∈ lw_all := lw_g (lw_at lw_m1 20 rfl) rfl
theorem q741 : (Jvm.Cond.instantiable "MovedSpan$Not" (1 : Nat)) ∈ lw_all := lw_g (lw_at lw_m3 125 rfl) rfl
theorem q743 : (Jvm.Cond.instanceMethod ({ cls := "MovedSpan$Not", name := "<init>", desc := "(LMovedSpan$Truth;)V" } : Jvm.MethodName)) ∈ lw_all := lw_g (lw_at lw_m3 127 rfl) rfl
theorem q744 : (Jvm.Cond.code ({ cls := "MovedSpan$Not", name := "<init>", desc := "(LMovedSpan$Truth;)V" } : Jvm.MethodName) prog_9_method_1_code (2 : Nat) (Option.none : Option Jvm.ClassFile.FieldType)) ∈ lw_all := lw_g (lw_at lw_m3 128 rfl) rfl
theorem q745 : (Jvm.Cond.methodLinkNest "MovedSpan$Not" (1 : Nat) ({ cls := "MovedSpan$Truth", name := "<init>", desc := "()V" } : Jvm.MethodName) "MovedSpan") ∈ lw_tbl := lw_at lw_m3 129 rfl
theorem q749 : (Jvm.Cond.fieldLink "MovedSpan$Not" (7 : Nat) "MovedSpan$Not" "one" "LMovedSpan$Truth;") ∈ lw_all := lw_g (lw_at lw_m3 133 rfl) rfl
theorem q750 : (Jvm.Cond.laysFinal "MovedSpan$Not" "MovedSpan$Not" "one" "LMovedSpan$Truth;") ∈ lw_all := lw_g (lw_at lw_m3 134 rfl) rfl
theorem q751 : (Jvm.Cond.soleField "MovedSpan$Not" "one") ∈ lw_all := lw_g (lw_at lw_m3 135 rfl) rfl
theorem q752 : (Jvm.Cond.superclass "MovedSpan$Not" "MovedSpan$Truth") ∈ lw_all := lw_g (lw_at lw_m3 136 rfl) rfl
theorem q977 : (Jvm.Cond.instanceMethod ({ cls := "MovedSpan$Not", name := "holds", desc := "([I)Z" } : Jvm.MethodName)) ∈ lw_all := lw_g (lw_at lw_m4 121 rfl) rfl
theorem q978 : (Jvm.Cond.code ({ cls := "MovedSpan$Not", name := "holds", desc := "([I)Z" } : Jvm.MethodName) prog_9_method_2_code (2 : Nat) (Option.some Jvm.ClassFile.FieldType.boolean)) ∈ lw_all := lw_g (lw_at lw_m4 122 rfl) rfl
theorem q979 : (Jvm.Cond.methodLink "MovedSpan$Not" (13 : Nat) ({ cls := "MovedSpan$Truth", name := "holds", desc := "([I)Z" } : Jvm.MethodName)) ∈ lw_all := lw_g (lw_at lw_m4 123 rfl) rfl
theorem q981 : (Jvm.Cond.selects "MovedSpan$Not" ({ cls := "MovedSpan$Truth", name := "holds", desc := "([I)Z" } : Jvm.MethodName) ({ cls := "MovedSpan$Not", name := "holds", desc := "([I)Z" } : Jvm.MethodName)) ∈ lw_all := lw_g (lw_at lw_m4 125 rfl) rfl
theorem in_X12 : ∀ w ∈ wsX120, w ∈ lw_all := lw_in wsX120 [750] (by decide +kernel) (by decide +kernel)
abbrev cX13_init : ByteArray := prog_16_method_1_code
def RX13 : String := "MovedSpan$Sum"
def yX13_init : MethodName := ⟨RX13, "<init>", "()V"⟩
theorem q157 : (Jvm.Cond.initialized "MovedSpan$Sum") ∈ lw_all := lw_g (lw_at lw_m1 21 rfl) rfl
theorem q784 : (Jvm.Cond.instanceMethod ({ cls := "MovedSpan$Sum", name := "<init>", desc := "()V" } : Jvm.MethodName)) ∈ lw_all := lw_g (lw_at lw_m3 168 rfl) rfl
theorem q785 : (Jvm.Cond.code ({ cls := "MovedSpan$Sum", name := "<init>", desc := "()V" } : Jvm.MethodName) prog_16_method_1_code (1 : Nat) (Option.none : Option Jvm.ClassFile.FieldType)) ∈ lw_all := lw_g (lw_at lw_m3 169 rfl) rfl
theorem q786 : (Jvm.Cond.methodLink "MovedSpan$Sum" (1 : Nat) ({ cls := "java/lang/Object", name := "<init>", desc := "()V" } : Jvm.MethodName)) ∈ lw_all := lw_g (lw_at lw_m3 170 rfl) rfl
theorem q957 : (Jvm.Cond.declares ({ cls := "MovedSpan$Sum", name := "value", desc := "([I)I" } : Jvm.MethodName)) ∈ lw_tbl := lw_at lw_m4 101 rfl
theorem q958 : (Jvm.Cond.sameMethod "MovedSpan$Sum" "MovedSpan$Sum" "value" "([I)I") ∈ lw_all := lw_g (lw_at lw_m4 102 rfl) rfl
abbrev cX14_init : ByteArray := prog_8_method_1_code
abbrev cX14_value : ByteArray := prog_8_method_2_code
def RX14 : String := "MovedSpan$Known"
def TX14 : u_T := fun k => match k with
  | _ => ("MovedSpan$Known", "word", "I", true)
def tyX14 : Nat → FieldType := fun k => match k with
  | _ => .int
abbrev wsX140 : List Cond := u_ws RX14 TX14 1
theorem nmX14 : ∀ a, a < 1 → ∀ b, b < 1 → a ≠ b → (TX14 a).2.1 ≠ (TX14 b).2.1 := by decide +kernel
theorem tyX14_ok : ∀ k, k < 1 → parseFieldDescriptor (TX14 k).2.2.1 = some (tyX14 k) := by decide +kernel
def yX14_init : MethodName := ⟨RX14, "<init>", "(I)V"⟩
def yX14_value : MethodName := ⟨RX14, "value", "([I)I"⟩
theorem q158 : (Jvm.Cond.initialized "MovedSpan$Known") ∈ lw_all := lw_g (lw_at lw_m1 22 rfl) rfl
theorem q779 : (Jvm.Cond.instantiable "MovedSpan$Known" (1 : Nat)) ∈ lw_all := lw_g (lw_at lw_m3 163 rfl) rfl
theorem q781 : (Jvm.Cond.instanceMethod ({ cls := "MovedSpan$Known", name := "<init>", desc := "(I)V" } : Jvm.MethodName)) ∈ lw_all := lw_g (lw_at lw_m3 165 rfl) rfl
theorem q782 : (Jvm.Cond.code ({ cls := "MovedSpan$Known", name := "<init>", desc := "(I)V" } : Jvm.MethodName) prog_8_method_1_code (2 : Nat) (Option.none : Option Jvm.ClassFile.FieldType)) ∈ lw_all := lw_g (lw_at lw_m3 166 rfl) rfl
theorem q783 : (Jvm.Cond.methodLinkNest "MovedSpan$Known" (1 : Nat) ({ cls := "MovedSpan$Sum", name := "<init>", desc := "()V" } : Jvm.MethodName) "MovedSpan") ∈ lw_tbl := lw_at lw_m3 167 rfl
theorem q787 : (Jvm.Cond.fieldLink "MovedSpan$Known" (7 : Nat) "MovedSpan$Known" "word" "I") ∈ lw_all := lw_g (lw_at lw_m3 171 rfl) rfl
theorem q788 : (Jvm.Cond.laysFinal "MovedSpan$Known" "MovedSpan$Known" "word" "I") ∈ lw_all := lw_g (lw_at lw_m3 172 rfl) rfl
theorem q789 : (Jvm.Cond.soleField "MovedSpan$Known" "word") ∈ lw_all := lw_g (lw_at lw_m3 173 rfl) rfl
theorem q790 : (Jvm.Cond.superclass "MovedSpan$Known" "MovedSpan$Sum") ∈ lw_all := lw_g (lw_at lw_m3 174 rfl) rfl
theorem q959 : (Jvm.Cond.selects "MovedSpan$Known" ({ cls := "MovedSpan$Sum", name := "value", desc := "([I)I" } : Jvm.MethodName) ({ cls := "MovedSpan$Known", name := "value", desc := "([I)I" } : Jvm.MethodName)) ∈ lw_all := lw_g (lw_at lw_m4 103 rfl) rfl
theorem q960 : (Jvm.Cond.instanceMethod ({ cls := "MovedSpan$Known", name := "value", desc := "([I)I" } : Jvm.MethodName)) ∈ lw_all := lw_g (lw_at lw_m4 104 rfl) rfl
theorem q961 : (Jvm.Cond.code ({ cls := "MovedSpan$Known", name := "value", desc := "([I)I" } : Jvm.MethodName) prog_8_method_2_code (2 : Nat) (Option.some Jvm.ClassFile.FieldType.int)) ∈ lw_all := lw_g (lw_at lw_m4 105 rfl) rfl
theorem in_X14 : ∀ w ∈ wsX140, w ∈ lw_all := lw_in wsX140 [788] (by decide +kernel) (by decide +kernel)
abbrev cX15_init : ByteArray := prog_12_method_1_code
abbrev cX15_value : ByteArray := prog_12_method_2_code
def RX15 : String := "MovedSpan$Plain"
def TX15 : u_T := fun k => match k with
  | _ => ("MovedSpan$Plain", "n", "I", true)
def tyX15 : Nat → FieldType := fun k => match k with
  | _ => .int
abbrev wsX150 : List Cond := u_ws RX15 TX15 1
theorem nmX15 : ∀ a, a < 1 → ∀ b, b < 1 → a ≠ b → (TX15 a).2.1 ≠ (TX15 b).2.1 := by decide +kernel
theorem tyX15_ok : ∀ k, k < 1 → parseFieldDescriptor (TX15 k).2.2.1 = some (tyX15 k) := by decide +kernel
def yX15_init : MethodName := ⟨RX15, "<init>", "(I)V"⟩
def yX15_value : MethodName := ⟨RX15, "value", "([I)I"⟩
theorem q159 : (Jvm.Cond.initialized "MovedSpan$Plain") ∈ lw_all := lw_g (lw_at lw_m1 23 rfl) rfl
theorem q792 : (Jvm.Cond.instantiable "MovedSpan$Plain" (1 : Nat)) ∈ lw_all := lw_g (lw_at lw_m3 176 rfl) rfl
theorem q794 : (Jvm.Cond.instanceMethod ({ cls := "MovedSpan$Plain", name := "<init>", desc := "(I)V" } : Jvm.MethodName)) ∈ lw_all := lw_g (lw_at lw_m3 178 rfl) rfl
theorem q795 : (Jvm.Cond.code ({ cls := "MovedSpan$Plain", name := "<init>", desc := "(I)V" } : Jvm.MethodName) prog_12_method_1_code (2 : Nat) (Option.none : Option Jvm.ClassFile.FieldType)) ∈ lw_all := lw_g (lw_at lw_m3 179 rfl) rfl
theorem q796 : (Jvm.Cond.methodLinkNest "MovedSpan$Plain" (1 : Nat) ({ cls := "MovedSpan$Sum", name := "<init>", desc := "()V" } : Jvm.MethodName) "MovedSpan") ∈ lw_tbl := lw_at lw_m3 180 rfl
theorem q797 : (Jvm.Cond.fieldLink "MovedSpan$Plain" (7 : Nat) "MovedSpan$Plain" "n" "I") ∈ lw_all := lw_g (lw_at lw_m3 181 rfl) rfl
theorem q798 : (Jvm.Cond.laysFinal "MovedSpan$Plain" "MovedSpan$Plain" "n" "I") ∈ lw_all := lw_g (lw_at lw_m3 182 rfl) rfl
theorem q799 : (Jvm.Cond.soleField "MovedSpan$Plain" "n") ∈ lw_all := lw_g (lw_at lw_m3 183 rfl) rfl
theorem q800 : (Jvm.Cond.superclass "MovedSpan$Plain" "MovedSpan$Sum") ∈ lw_all := lw_g (lw_at lw_m3 184 rfl) rfl
theorem q966 : (Jvm.Cond.instanceMethod ({ cls := "MovedSpan$Plain", name := "value", desc := "([I)I" } : Jvm.MethodName)) ∈ lw_all := lw_g (lw_at lw_m4 110 rfl) rfl
theorem q967 : (Jvm.Cond.code ({ cls := "MovedSpan$Plain", name := "value", desc := "([I)I" } : Jvm.MethodName) prog_12_method_2_code (2 : Nat) (Option.some Jvm.ClassFile.FieldType.int)) ∈ lw_all := lw_g (lw_at lw_m4 111 rfl) rfl
theorem q976 : (Jvm.Cond.selects "MovedSpan$Plain" ({ cls := "MovedSpan$Sum", name := "value", desc := "([I)I" } : Jvm.MethodName) ({ cls := "MovedSpan$Plain", name := "value", desc := "([I)I" } : Jvm.MethodName)) ∈ lw_all := lw_g (lw_at lw_m4 120 rfl) rfl
theorem in_X15 : ∀ w ∈ wsX150, w ∈ lw_all := lw_in wsX150 [798] (by decide +kernel) (by decide +kernel)
abbrev cX16_init : ByteArray := prog_11_method_1_code
abbrev cX16_value : ByteArray := prog_11_method_2_code
def RX16 : String := "MovedSpan$Pair"
def TX16 : u_T := fun k => match k with
  | 0 => ("MovedSpan$Pair", "one", "LMovedSpan$Sum;", true)
  | 1 => ("MovedSpan$Pair", "two", "LMovedSpan$Sum;", true)
  | _ => ("MovedSpan$Pair", "sign", "I", true)
def tyX16 : Nat → FieldType := fun k => match k with
  | 0 => .object "MovedSpan$Sum"
  | 1 => .object "MovedSpan$Sum"
  | _ => .int
abbrev wsX160 : List Cond := u_ws RX16 TX16 3
theorem nmX16 : ∀ a, a < 3 → ∀ b, b < 3 → a ≠ b → (TX16 a).2.1 ≠ (TX16 b).2.1 := by decide +kernel
theorem tyX16_ok : ∀ k, k < 3 → parseFieldDescriptor (TX16 k).2.2.1 = some (tyX16 k) := by decide +kernel
def yX16_init : MethodName := ⟨RX16, "<init>", "(LMovedSpan$Sum;ILMovedSpan$Sum;)V"⟩
def yX16_value : MethodName := ⟨RX16, "value", "([I)I"⟩
theorem q160 : (Jvm.Cond.initialized "MovedSpan$Pair") ∈ lw_all := lw_g (lw_at lw_m1 24 rfl) rfl
theorem q802 : (Jvm.Cond.instantiable "MovedSpan$Pair" (3 : Nat)) ∈ lw_all := lw_g (lw_at lw_m3 186 rfl) rfl
theorem q804 : (Jvm.Cond.instanceMethod ({ cls := "MovedSpan$Pair", name := "<init>", desc := "(LMovedSpan$Sum;ILMovedSpan$Sum;)V" } : Jvm.MethodName)) ∈ lw_all := lw_g (lw_at lw_m3 188 rfl) rfl
theorem q805 : (Jvm.Cond.code ({ cls := "MovedSpan$Pair", name := "<init>", desc := "(LMovedSpan$Sum;ILMovedSpan$Sum;)V" } : Jvm.MethodName) prog_11_method_1_code (4 : Nat) (Option.none : Option Jvm.ClassFile.FieldType)) ∈ lw_all := lw_g (lw_at lw_m3 189 rfl) rfl
theorem q806 : (Jvm.Cond.methodLinkNest "MovedSpan$Pair" (3 : Nat) ({ cls := "MovedSpan$Sum", name := "<init>", desc := "()V" } : Jvm.MethodName) "MovedSpan") ∈ lw_tbl := lw_at lw_m3 190 rfl
theorem q807 : (Jvm.Cond.fieldLink "MovedSpan$Pair" (9 : Nat) "MovedSpan$Pair" "one" "LMovedSpan$Sum;") ∈ lw_all := lw_g (lw_at lw_m3 191 rfl) rfl
theorem q808 : (Jvm.Cond.fieldLink "MovedSpan$Pair" (19 : Nat) "MovedSpan$Pair" "two" "LMovedSpan$Sum;") ∈ lw_all := lw_g (lw_at lw_m3 192 rfl) rfl
theorem q809 : (Jvm.Cond.fieldLink "MovedSpan$Pair" (15 : Nat) "MovedSpan$Pair" "sign" "I") ∈ lw_all := lw_g (lw_at lw_m3 193 rfl) rfl
theorem q810 : (Jvm.Cond.laysFinal "MovedSpan$Pair" "MovedSpan$Pair" "one" "LMovedSpan$Sum;") ∈ lw_all := lw_g (lw_at lw_m3 194 rfl) rfl
theorem q811 : (Jvm.Cond.soleField "MovedSpan$Pair" "one") ∈ lw_all := lw_g (lw_at lw_m3 195 rfl) rfl
theorem q812 : (Jvm.Cond.laysFinal "MovedSpan$Pair" "MovedSpan$Pair" "two" "LMovedSpan$Sum;") ∈ lw_all := lw_g (lw_at lw_m3 196 rfl) rfl
theorem q813 : (Jvm.Cond.soleField "MovedSpan$Pair" "two") ∈ lw_all := lw_g (lw_at lw_m3 197 rfl) rfl
theorem q814 : (Jvm.Cond.laysFinal "MovedSpan$Pair" "MovedSpan$Pair" "sign" "I") ∈ lw_all := lw_g (lw_at lw_m3 198 rfl) rfl
theorem q815 : (Jvm.Cond.soleField "MovedSpan$Pair" "sign") ∈ lw_all := lw_g (lw_at lw_m3 199 rfl) rfl
theorem q816 : (Jvm.Cond.superclass "MovedSpan$Pair" "MovedSpan$Sum") ∈ lw_all := lw_g (lw_at lw_m3 200 rfl) rfl
theorem q962 : (Jvm.Cond.selects "MovedSpan$Pair" ({ cls := "MovedSpan$Sum", name := "value", desc := "([I)I" } : Jvm.MethodName) ({ cls := "MovedSpan$Pair", name := "value", desc := "([I)I" } : Jvm.MethodName)) ∈ lw_all := lw_g (lw_at lw_m4 106 rfl) rfl
theorem q963 : (Jvm.Cond.instanceMethod ({ cls := "MovedSpan$Pair", name := "value", desc := "([I)I" } : Jvm.MethodName)) ∈ lw_all := lw_g (lw_at lw_m4 107 rfl) rfl
theorem q964 : (Jvm.Cond.code ({ cls := "MovedSpan$Pair", name := "value", desc := "([I)I" } : Jvm.MethodName) prog_11_method_2_code (8 : Nat) (Option.some Jvm.ClassFile.FieldType.int)) ∈ lw_all := lw_g (lw_at lw_m4 108 rfl) rfl
theorem q965 : (Jvm.Cond.methodLink "MovedSpan$Pair" (22 : Nat) ({ cls := "MovedSpan$Sum", name := "value", desc := "([I)I" } : Jvm.MethodName)) ∈ lw_all := lw_g (lw_at lw_m4 109 rfl) rfl
theorem q968 : (Jvm.Cond.constantLong "MovedSpan$Pair" (26 : Nat) (-1000000 : Int64)) ∈ lw_all := lw_g (lw_at lw_m4 112 rfl) rfl
theorem q969 : (Jvm.Cond.constantLong "MovedSpan$Pair" (28 : Nat) (1000000 : Int64)) ∈ lw_all := lw_g (lw_at lw_m4 113 rfl) rfl
theorem q970 : (Jvm.Cond.methodLink "MovedSpan$Pair" (30 : Nat) ({ cls := "java/lang/Math", name := "min", desc := "(JJ)J" } : Jvm.MethodName)) ∈ lw_all := lw_g (lw_at lw_m4 114 rfl) rfl
theorem q973 : (Jvm.Cond.methodLink "MovedSpan$Pair" (36 : Nat) ({ cls := "java/lang/Math", name := "max", desc := "(JJ)J" } : Jvm.MethodName)) ∈ lw_all := lw_g (lw_at lw_m4 117 rfl) rfl
theorem in_X16 : ∀ w ∈ wsX160, w ∈ lw_all := lw_in wsX160 [810, 812, 814] (by decide +kernel) (by decide +kernel)
abbrev cX17_init : ByteArray := prog_4_method_1_code
abbrev cX17_holds : ByteArray := prog_4_method_2_code
def RX17 : String := "MovedSpan$Compare"
def TX17 : u_T := fun k => match k with
  | 0 => ("MovedSpan$Compare", "one", "LMovedSpan$Sum;", true)
  | 1 => ("MovedSpan$Compare", "two", "LMovedSpan$Sum;", true)
  | _ => ("MovedSpan$Compare", "sign", "I", true)
def tyX17 : Nat → FieldType := fun k => match k with
  | 0 => .object "MovedSpan$Sum"
  | 1 => .object "MovedSpan$Sum"
  | _ => .int
abbrev wsX170 : List Cond := u_ws RX17 TX17 3
theorem nmX17 : ∀ a, a < 3 → ∀ b, b < 3 → a ≠ b → (TX17 a).2.1 ≠ (TX17 b).2.1 := by decide +kernel
theorem tyX17_ok : ∀ k, k < 3 → parseFieldDescriptor (TX17 k).2.2.1 = some (tyX17 k) := by decide +kernel
def yX17_init : MethodName := ⟨RX17, "<init>", "(LMovedSpan$Sum;ILMovedSpan$Sum;)V"⟩
def yX17_holds : MethodName := ⟨RX17, "holds", "([I)Z"⟩
theorem q161 : (Jvm.Cond.initialized "MovedSpan$Compare") ∈ lw_all := lw_g (lw_at lw_m1 25 rfl) rfl
theorem q818 : (Jvm.Cond.instantiable "MovedSpan$Compare" (3 : Nat)) ∈ lw_all := lw_g (lw_at lw_m3 202 rfl) rfl
theorem q820 : (Jvm.Cond.instanceMethod ({ cls := "MovedSpan$Compare", name := "<init>", desc := "(LMovedSpan$Sum;ILMovedSpan$Sum;)V" } : Jvm.MethodName)) ∈ lw_all := lw_g (lw_at lw_m3 204 rfl) rfl
theorem q821 : (Jvm.Cond.code ({ cls := "MovedSpan$Compare", name := "<init>", desc := "(LMovedSpan$Sum;ILMovedSpan$Sum;)V" } : Jvm.MethodName) prog_4_method_1_code (4 : Nat) (Option.none : Option Jvm.ClassFile.FieldType)) ∈ lw_all := lw_g (lw_at lw_m3 205 rfl) rfl
theorem q822 : (Jvm.Cond.methodLinkNest "MovedSpan$Compare" (1 : Nat) ({ cls := "MovedSpan$Truth", name := "<init>", desc := "()V" } : Jvm.MethodName) "MovedSpan") ∈ lw_tbl := lw_at lw_m3 206 rfl
theorem q823 : (Jvm.Cond.fieldLink "MovedSpan$Compare" (7 : Nat) "MovedSpan$Compare" "one" "LMovedSpan$Sum;") ∈ lw_all := lw_g (lw_at lw_m3 207 rfl) rfl
theorem q824 : (Jvm.Cond.fieldLink "MovedSpan$Compare" (17 : Nat) "MovedSpan$Compare" "two" "LMovedSpan$Sum;") ∈ lw_all := lw_g (lw_at lw_m3 208 rfl) rfl
theorem q825 : (Jvm.Cond.fieldLink "MovedSpan$Compare" (13 : Nat) "MovedSpan$Compare" "sign" "I") ∈ lw_all := lw_g (lw_at lw_m3 209 rfl) rfl
theorem q826 : (Jvm.Cond.laysFinal "MovedSpan$Compare" "MovedSpan$Compare" "one" "LMovedSpan$Sum;") ∈ lw_all := lw_g (lw_at lw_m3 210 rfl) rfl
theorem q827 : (Jvm.Cond.soleField "MovedSpan$Compare" "one") ∈ lw_all := lw_g (lw_at lw_m3 211 rfl) rfl
theorem q828 : (Jvm.Cond.laysFinal "MovedSpan$Compare" "MovedSpan$Compare" "two" "LMovedSpan$Sum;") ∈ lw_all := lw_g (lw_at lw_m3 212 rfl) rfl
theorem q829 : (Jvm.Cond.soleField "MovedSpan$Compare" "two") ∈ lw_all := lw_g (lw_at lw_m3 213 rfl) rfl
theorem q830 : (Jvm.Cond.laysFinal "MovedSpan$Compare" "MovedSpan$Compare" "sign" "I") ∈ lw_all := lw_g (lw_at lw_m3 214 rfl) rfl
theorem q831 : (Jvm.Cond.soleField "MovedSpan$Compare" "sign") ∈ lw_all := lw_g (lw_at lw_m3 215 rfl) rfl
theorem q832 : (Jvm.Cond.superclass "MovedSpan$Compare" "MovedSpan$Truth") ∈ lw_all := lw_g (lw_at lw_m3 216 rfl) rfl
theorem q954 : (Jvm.Cond.instanceMethod ({ cls := "MovedSpan$Compare", name := "holds", desc := "([I)Z" } : Jvm.MethodName)) ∈ lw_all := lw_g (lw_at lw_m4 98 rfl) rfl
theorem q955 : (Jvm.Cond.code ({ cls := "MovedSpan$Compare", name := "holds", desc := "([I)Z" } : Jvm.MethodName) prog_4_method_2_code (4 : Nat) (Option.some Jvm.ClassFile.FieldType.boolean)) ∈ lw_all := lw_g (lw_at lw_m4 99 rfl) rfl
theorem q956 : (Jvm.Cond.methodLink "MovedSpan$Compare" (20 : Nat) ({ cls := "MovedSpan$Sum", name := "value", desc := "([I)I" } : Jvm.MethodName)) ∈ lw_all := lw_g (lw_at lw_m4 100 rfl) rfl
theorem q980 : (Jvm.Cond.selects "MovedSpan$Compare" ({ cls := "MovedSpan$Truth", name := "holds", desc := "([I)Z" } : Jvm.MethodName) ({ cls := "MovedSpan$Compare", name := "holds", desc := "([I)Z" } : Jvm.MethodName)) ∈ lw_all := lw_g (lw_at lw_m4 124 rfl) rfl
theorem in_X17 : ∀ w ∈ wsX170, w ∈ lw_all := lw_in wsX170 [826, 828, 830] (by decide +kernel) (by decide +kernel)
abbrev cX18_init : ByteArray := prog_3_method_1_code
abbrev cX18_holds : ByteArray := prog_3_method_2_code
def RX18 : String := "MovedSpan$Both"
def TX18 : u_T := fun k => match k with
  | 0 => ("MovedSpan$Both", "one", "LMovedSpan$Truth;", true)
  | 1 => ("MovedSpan$Both", "two", "LMovedSpan$Truth;", true)
  | _ => ("MovedSpan$Both", "isAnd", "Z", true)
def tyX18 : Nat → FieldType := fun k => match k with
  | 0 => .object "MovedSpan$Truth"
  | 1 => .object "MovedSpan$Truth"
  | _ => .boolean
abbrev wsX180 : List Cond := u_ws RX18 TX18 3
theorem nmX18 : ∀ a, a < 3 → ∀ b, b < 3 → a ≠ b → (TX18 a).2.1 ≠ (TX18 b).2.1 := by decide +kernel
theorem tyX18_ok : ∀ k, k < 3 → parseFieldDescriptor (TX18 k).2.2.1 = some (tyX18 k) := by decide +kernel
def yX18_init : MethodName := ⟨RX18, "<init>", "(LMovedSpan$Truth;ZLMovedSpan$Truth;)V"⟩
def yX18_holds : MethodName := ⟨RX18, "holds", "([I)Z"⟩
theorem q162 : (Jvm.Cond.initialized "MovedSpan$Both") ∈ lw_all := lw_g (lw_at lw_m1 26 rfl) rfl
theorem q835 : (Jvm.Cond.instantiable "MovedSpan$Both" (3 : Nat)) ∈ lw_all := lw_g (lw_at lw_m3 219 rfl) rfl
theorem q837 : (Jvm.Cond.instanceMethod ({ cls := "MovedSpan$Both", name := "<init>", desc := "(LMovedSpan$Truth;ZLMovedSpan$Truth;)V" } : Jvm.MethodName)) ∈ lw_all := lw_g (lw_at lw_m3 221 rfl) rfl
theorem q838 : (Jvm.Cond.code ({ cls := "MovedSpan$Both", name := "<init>", desc := "(LMovedSpan$Truth;ZLMovedSpan$Truth;)V" } : Jvm.MethodName) prog_3_method_1_code (4 : Nat) (Option.none : Option Jvm.ClassFile.FieldType)) ∈ lw_all := lw_g (lw_at lw_m3 222 rfl) rfl
theorem q839 : (Jvm.Cond.methodLinkNest "MovedSpan$Both" (1 : Nat) ({ cls := "MovedSpan$Truth", name := "<init>", desc := "()V" } : Jvm.MethodName) "MovedSpan") ∈ lw_tbl := lw_at lw_m3 223 rfl
theorem q840 : (Jvm.Cond.fieldLink "MovedSpan$Both" (7 : Nat) "MovedSpan$Both" "one" "LMovedSpan$Truth;") ∈ lw_all := lw_g (lw_at lw_m3 224 rfl) rfl
theorem q841 : (Jvm.Cond.fieldLink "MovedSpan$Both" (17 : Nat) "MovedSpan$Both" "two" "LMovedSpan$Truth;") ∈ lw_all := lw_g (lw_at lw_m3 225 rfl) rfl
theorem q842 : (Jvm.Cond.fieldLink "MovedSpan$Both" (13 : Nat) "MovedSpan$Both" "isAnd" "Z") ∈ lw_all := lw_g (lw_at lw_m3 226 rfl) rfl
theorem q843 : (Jvm.Cond.laysFinal "MovedSpan$Both" "MovedSpan$Both" "one" "LMovedSpan$Truth;") ∈ lw_all := lw_g (lw_at lw_m3 227 rfl) rfl
theorem q844 : (Jvm.Cond.soleField "MovedSpan$Both" "one") ∈ lw_all := lw_g (lw_at lw_m3 228 rfl) rfl
theorem q845 : (Jvm.Cond.laysFinal "MovedSpan$Both" "MovedSpan$Both" "two" "LMovedSpan$Truth;") ∈ lw_all := lw_g (lw_at lw_m3 229 rfl) rfl
theorem q846 : (Jvm.Cond.soleField "MovedSpan$Both" "two") ∈ lw_all := lw_g (lw_at lw_m3 230 rfl) rfl
theorem q847 : (Jvm.Cond.laysFinal "MovedSpan$Both" "MovedSpan$Both" "isAnd" "Z") ∈ lw_all := lw_g (lw_at lw_m3 231 rfl) rfl
theorem q848 : (Jvm.Cond.soleField "MovedSpan$Both" "isAnd") ∈ lw_all := lw_g (lw_at lw_m3 232 rfl) rfl
theorem q849 : (Jvm.Cond.superclass "MovedSpan$Both" "MovedSpan$Truth") ∈ lw_all := lw_g (lw_at lw_m3 233 rfl) rfl
theorem q950 : (Jvm.Cond.selects "MovedSpan$Both" ({ cls := "MovedSpan$Truth", name := "holds", desc := "([I)Z" } : Jvm.MethodName) ({ cls := "MovedSpan$Both", name := "holds", desc := "([I)Z" } : Jvm.MethodName)) ∈ lw_all := lw_g (lw_at lw_m4 94 rfl) rfl
theorem q951 : (Jvm.Cond.instanceMethod ({ cls := "MovedSpan$Both", name := "holds", desc := "([I)Z" } : Jvm.MethodName)) ∈ lw_all := lw_g (lw_at lw_m4 95 rfl) rfl
theorem q952 : (Jvm.Cond.code ({ cls := "MovedSpan$Both", name := "holds", desc := "([I)Z" } : Jvm.MethodName) prog_3_method_2_code (2 : Nat) (Option.some Jvm.ClassFile.FieldType.boolean)) ∈ lw_all := lw_g (lw_at lw_m4 96 rfl) rfl
theorem q953 : (Jvm.Cond.methodLink "MovedSpan$Both" (20 : Nat) ({ cls := "MovedSpan$Truth", name := "holds", desc := "([I)Z" } : Jvm.MethodName)) ∈ lw_all := lw_g (lw_at lw_m4 97 rfl) rfl
theorem in_X18 : ∀ w ∈ wsX180, w ∈ lw_all := lw_in wsX180 [843, 845, 847] (by decide +kernel) (by decide +kernel)
abbrev cJ0_indexOf : ByteArray := prog_30_method_79_code
abbrev cJ0_indexOf_2 : ByteArray := prog_30_method_80_code
abbrev cJ0_isLatin1 : ByteArray := prog_30_method_154_code
abbrev cJ0_length : ByteArray := prog_30_method_54_code
abbrev cJ0_coder : ByteArray := prog_30_method_152_code
abbrev cJ0_checkBoundsBeginEnd : ByteArray := prog_30_method_158_code
abbrev cJ0_charAt : ByteArray := prog_30_method_56_code
abbrev cJ0_checkIndex : ByteArray := prog_30_method_155_code
def RJ0 : String := "java/lang/String"
def TJ0 : u_T := fun k => match k with
  | 0 => ("java/lang/String", "value", "[B", true)
  | _ => ("java/lang/String", "coder", "B", true)
def tyJ0 : Nat → FieldType := fun k => match k with
  | 0 => .array .byte
  | _ => .byte
abbrev wsJ00 : List Cond := u_ws RJ0 TJ0 2
theorem nmJ0 : ∀ a, a < 2 → ∀ b, b < 2 → a ≠ b → (TJ0 a).2.1 ≠ (TJ0 b).2.1 := by decide +kernel
theorem tyJ0_ok : ∀ k, k < 2 → parseFieldDescriptor (TJ0 k).2.2.1 = some (tyJ0 k) := by decide +kernel
def yJ0_indexOf : MethodName := ⟨RJ0, "indexOf", "(I)I"⟩
def yJ0_indexOf_2 : MethodName := ⟨RJ0, "indexOf", "(II)I"⟩
def yJ0_isLatin1 : MethodName := ⟨RJ0, "isLatin1", "()Z"⟩
def yJ0_length : MethodName := ⟨RJ0, "length", "()I"⟩
def yJ0_coder : MethodName := ⟨RJ0, "coder", "()B"⟩
def yJ0_checkBoundsBeginEnd : MethodName := ⟨RJ0, "checkBoundsBeginEnd", "(III)V"⟩
def yJ0_charAt : MethodName := ⟨RJ0, "charAt", "(I)C"⟩
def yJ0_checkIndex : MethodName := ⟨RJ0, "checkIndex", "(II)V"⟩
theorem q149 : (Jvm.Cond.initialized "java/lang/String") ∈ lw_all := lw_g (lw_at lw_m1 13 rfl) rfl
theorem q549 : (Jvm.Cond.instanceMethod ({ cls := "java/lang/String", name := "indexOf", desc := "(I)I" } : Jvm.MethodName)) ∈ lw_all := lw_g (lw_at lw_m2 173 rfl) rfl
theorem q550 : (Jvm.Cond.selects "java/lang/String" ({ cls := "java/lang/String", name := "indexOf", desc := "(I)I" } : Jvm.MethodName) ({ cls := "java/lang/String", name := "indexOf", desc := "(I)I" } : Jvm.MethodName)) ∈ lw_all := lw_g (lw_at lw_m2 174 rfl) rfl
theorem q551 : (Jvm.Cond.code ({ cls := "java/lang/String", name := "indexOf", desc := "(I)I" } : Jvm.MethodName) prog_30_method_79_code (2 : Nat) (Option.some Jvm.ClassFile.FieldType.int)) ∈ lw_all := lw_g (lw_at lw_m2 175 rfl) rfl
theorem q552 : (Jvm.Cond.methodLink "java/lang/String" (633 : Nat) ({ cls := "java/lang/String", name := "indexOf", desc := "(II)I" } : Jvm.MethodName)) ∈ lw_all := lw_g (lw_at lw_m2 176 rfl) rfl
theorem q553 : (Jvm.Cond.instanceMethod ({ cls := "java/lang/String", name := "indexOf", desc := "(II)I" } : Jvm.MethodName)) ∈ lw_all := lw_g (lw_at lw_m2 177 rfl) rfl
theorem q554 : (Jvm.Cond.selects "java/lang/String" ({ cls := "java/lang/String", name := "indexOf", desc := "(II)I" } : Jvm.MethodName) ({ cls := "java/lang/String", name := "indexOf", desc := "(II)I" } : Jvm.MethodName)) ∈ lw_all := lw_g (lw_at lw_m2 178 rfl) rfl
theorem q555 : (Jvm.Cond.code ({ cls := "java/lang/String", name := "indexOf", desc := "(II)I" } : Jvm.MethodName) prog_30_method_80_code (3 : Nat) (Option.some Jvm.ClassFile.FieldType.int)) ∈ lw_all := lw_g (lw_at lw_m2 179 rfl) rfl
theorem q556 : (Jvm.Cond.methodLink "java/lang/String" (492 : Nat) ({ cls := "java/lang/String", name := "isLatin1", desc := "()Z" } : Jvm.MethodName)) ∈ lw_all := lw_g (lw_at lw_m2 180 rfl) rfl
theorem q557 : (Jvm.Cond.instanceMethod ({ cls := "java/lang/String", name := "isLatin1", desc := "()Z" } : Jvm.MethodName)) ∈ lw_all := lw_g (lw_at lw_m2 181 rfl) rfl
theorem q558 : (Jvm.Cond.selects "java/lang/String" ({ cls := "java/lang/String", name := "isLatin1", desc := "()Z" } : Jvm.MethodName) ({ cls := "java/lang/String", name := "isLatin1", desc := "()Z" } : Jvm.MethodName)) ∈ lw_all := lw_g (lw_at lw_m2 182 rfl) rfl
theorem q559 : (Jvm.Cond.code ({ cls := "java/lang/String", name := "isLatin1", desc := "()Z" } : Jvm.MethodName) prog_30_method_154_code (1 : Nat) (Option.some Jvm.ClassFile.FieldType.boolean)) ∈ lw_all := lw_g (lw_at lw_m2 183 rfl) rfl
theorem q560 : (Jvm.Cond.fieldLink "java/lang/String" (38 : Nat) "java/lang/String" "COMPACT_STRINGS" "Z") ∈ lw_all := lw_g (lw_at lw_m2 184 rfl) rfl
theorem q561 : (Jvm.Cond.laysStatic "java/lang/String" "COMPACT_STRINGS" "Z") ∈ lw_tbl := lw_at lw_m2 185 rfl
theorem q562 : (Jvm.Cond.methodLink "java/lang/String" (505 : Nat) ({ cls := "java/lang/String", name := "length", desc := "()I" } : Jvm.MethodName)) ∈ lw_all := lw_g (lw_at lw_m2 186 rfl) rfl
theorem q563 : (Jvm.Cond.instanceMethod ({ cls := "java/lang/String", name := "length", desc := "()I" } : Jvm.MethodName)) ∈ lw_all := lw_g (lw_at lw_m2 187 rfl) rfl
theorem q564 : (Jvm.Cond.selects "java/lang/String" ({ cls := "java/lang/String", name := "length", desc := "()I" } : Jvm.MethodName) ({ cls := "java/lang/String", name := "length", desc := "()I" } : Jvm.MethodName)) ∈ lw_all := lw_g (lw_at lw_m2 188 rfl) rfl
theorem q565 : (Jvm.Cond.code ({ cls := "java/lang/String", name := "length", desc := "()I" } : Jvm.MethodName) prog_30_method_54_code (1 : Nat) (Option.some Jvm.ClassFile.FieldType.int)) ∈ lw_all := lw_g (lw_at lw_m2 189 rfl) rfl
theorem q566 : (Jvm.Cond.methodLink "java/lang/String" (335 : Nat) ({ cls := "java/lang/String", name := "coder", desc := "()B" } : Jvm.MethodName)) ∈ lw_all := lw_g (lw_at lw_m2 190 rfl) rfl
theorem q567 : (Jvm.Cond.instanceMethod ({ cls := "java/lang/String", name := "coder", desc := "()B" } : Jvm.MethodName)) ∈ lw_all := lw_g (lw_at lw_m2 191 rfl) rfl
theorem q568 : (Jvm.Cond.selects "java/lang/String" ({ cls := "java/lang/String", name := "coder", desc := "()B" } : Jvm.MethodName) ({ cls := "java/lang/String", name := "coder", desc := "()B" } : Jvm.MethodName)) ∈ lw_all := lw_g (lw_at lw_m2 192 rfl) rfl
theorem q569 : (Jvm.Cond.code ({ cls := "java/lang/String", name := "coder", desc := "()B" } : Jvm.MethodName) prog_30_method_152_code (1 : Nat) (Option.some Jvm.ClassFile.FieldType.byte)) ∈ lw_all := lw_g (lw_at lw_m2 193 rfl) rfl
theorem q570 : (Jvm.Cond.methodLink "java/lang/String" (637 : Nat) ({ cls := "java/lang/StringLatin1", name := "indexOf", desc := "([BIII)I" } : Jvm.MethodName)) ∈ lw_all := lw_g (lw_at lw_m2 194 rfl) rfl
theorem q585 : (Jvm.Cond.methodLink "java/lang/String" (640 : Nat) ({ cls := "java/lang/StringUTF16", name := "indexOf", desc := "([BIII)I" } : Jvm.MethodName)) ∈ lw_all := lw_g (lw_at lw_m2 209 rfl) rfl
theorem q601 : (Jvm.Cond.static ({ cls := "java/lang/String", name := "checkBoundsBeginEnd", desc := "(III)V" } : Jvm.MethodName)) ∈ lw_all := lw_g (lw_at lw_m2 225 rfl) rfl
theorem q602 : (Jvm.Cond.code ({ cls := "java/lang/String", name := "checkBoundsBeginEnd", desc := "(III)V" } : Jvm.MethodName) prog_30_method_158_code (3 : Nat) (Option.none : Option Jvm.ClassFile.FieldType)) ∈ lw_all := lw_g (lw_at lw_m2 226 rfl) rfl
theorem q603 : (Jvm.Cond.fieldLink "java/lang/String" (1053 : Nat) "jdk/internal/util/Preconditions" "SIOOBE_FORMATTER" "Ljava/util/function/BiFunction;") ∈ lw_all := lw_g (lw_at lw_m2 227 rfl) rfl
theorem q605 : (Jvm.Cond.methodLink "java/lang/String" (1062 : Nat) ({ cls := "jdk/internal/util/Preconditions", name := "checkFromToIndex", desc := "(IIILjava/util/function/BiFunction;)I" } : Jvm.MethodName)) ∈ lw_all := lw_g (lw_at lw_m2 229 rfl) rfl
theorem q649 : (Jvm.Cond.instanceMethod ({ cls := "java/lang/String", name := "charAt", desc := "(I)C" } : Jvm.MethodName)) ∈ lw_all := lw_g (lw_at lw_m3 33 rfl) rfl
theorem q650 : (Jvm.Cond.selects "java/lang/String" ({ cls := "java/lang/String", name := "charAt", desc := "(I)C" } : Jvm.MethodName) ({ cls := "java/lang/String", name := "charAt", desc := "(I)C" } : Jvm.MethodName)) ∈ lw_all := lw_g (lw_at lw_m3 34 rfl) rfl
theorem q651 : (Jvm.Cond.code ({ cls := "java/lang/String", name := "charAt", desc := "(I)C" } : Jvm.MethodName) prog_30_method_56_code (2 : Nat) (Option.some Jvm.ClassFile.FieldType.char)) ∈ lw_all := lw_g (lw_at lw_m3 35 rfl) rfl
theorem q652 : (Jvm.Cond.methodLink "java/lang/String" (495 : Nat) ({ cls := "java/lang/StringLatin1", name := "charAt", desc := "([BI)C" } : Jvm.MethodName)) ∈ lw_all := lw_g (lw_at lw_m3 36 rfl) rfl
theorem q656 : (Jvm.Cond.static ({ cls := "java/lang/String", name := "checkIndex", desc := "(II)V" } : Jvm.MethodName)) ∈ lw_all := lw_g (lw_at lw_m3 40 rfl) rfl
theorem q657 : (Jvm.Cond.code ({ cls := "java/lang/String", name := "checkIndex", desc := "(II)V" } : Jvm.MethodName) prog_30_method_155_code (2 : Nat) (Option.none : Option Jvm.ClassFile.FieldType)) ∈ lw_all := lw_g (lw_at lw_m3 41 rfl) rfl
theorem q658 : (Jvm.Cond.methodLink "java/lang/String" (1059 : Nat) ({ cls := "jdk/internal/util/Preconditions", name := "checkIndex", desc := "(IILjava/util/function/BiFunction;)I" } : Jvm.MethodName)) ∈ lw_all := lw_g (lw_at lw_m3 42 rfl) rfl
theorem q661 : (Jvm.Cond.methodLink "java/lang/String" (498 : Nat) ({ cls := "java/lang/StringUTF16", name := "charAt", desc := "([BI)C" } : Jvm.MethodName)) ∈ lw_all := lw_g (lw_at lw_m3 45 rfl) rfl
theorem q1394 : (Jvm.Cond.instantiable "java/lang/String" (4 : Nat)) ∈ lw_all := lw_g (lw_at lw_m6 58 rfl) rfl
theorem q1395 : (Jvm.Cond.laysFinal "java/lang/String" "java/lang/String" "value" "[B") ∈ lw_all := lw_g (lw_at lw_m6 59 rfl) rfl
theorem q1396 : (Jvm.Cond.soleField "java/lang/String" "value") ∈ lw_all := lw_g (lw_at lw_m6 60 rfl) rfl
theorem q1397 : (Jvm.Cond.laysFinal "java/lang/String" "java/lang/String" "coder" "B") ∈ lw_all := lw_g (lw_at lw_m6 61 rfl) rfl
theorem q1398 : (Jvm.Cond.soleField "java/lang/String" "coder") ∈ lw_all := lw_g (lw_at lw_m6 62 rfl) rfl
theorem q2092 : (Jvm.Cond.fieldLink "java/lang/String" (15 : Nat) "java/lang/String" "coder" "B") ∈ lw_all := lw_g (lw_at lw_m9 36 rfl) rfl
theorem q2093 : (Jvm.Cond.fieldLink "java/lang/String" (9 : Nat) "java/lang/String" "value" "[B") ∈ lw_all := lw_g (lw_at lw_m9 37 rfl) rfl
theorem in_J0 : ∀ w ∈ wsJ00, w ∈ lw_all := lw_in wsJ00 [1395, 1397] (by decide +kernel) (by decide +kernel)
abbrev cJ1_indexOf : ByteArray := prog_31_method_22_code
abbrev cJ1_canEncode : ByteArray := prog_31_method_4_code
abbrev cJ1_indexOfChar : ByteArray := prog_31_method_23_code
abbrev cJ1_charAt : ByteArray := prog_31_method_2_code
def RJ1 : String := "java/lang/StringLatin1"
def yJ1_indexOf : MethodName := ⟨RJ1, "indexOf", "([BIII)I"⟩
def yJ1_canEncode : MethodName := ⟨RJ1, "canEncode", "(I)Z"⟩
def yJ1_indexOfChar : MethodName := ⟨RJ1, "indexOfChar", "([BIII)I"⟩
def yJ1_charAt : MethodName := ⟨RJ1, "charAt", "([BI)C"⟩
theorem q150 : (Jvm.Cond.initialized "java/lang/StringLatin1") ∈ lw_all := lw_g (lw_at lw_m1 14 rfl) rfl
theorem q571 : (Jvm.Cond.static ({ cls := "java/lang/StringLatin1", name := "indexOf", desc := "([BIII)I" } : Jvm.MethodName)) ∈ lw_all := lw_g (lw_at lw_m2 195 rfl) rfl
theorem q572 : (Jvm.Cond.code ({ cls := "java/lang/StringLatin1", name := "indexOf", desc := "([BIII)I" } : Jvm.MethodName) prog_31_method_22_code (4 : Nat) (Option.some Jvm.ClassFile.FieldType.int)) ∈ lw_all := lw_g (lw_at lw_m2 196 rfl) rfl
theorem q573 : (Jvm.Cond.methodLink "java/lang/StringLatin1" (88 : Nat) ({ cls := "java/lang/StringLatin1", name := "canEncode", desc := "(I)Z" } : Jvm.MethodName)) ∈ lw_all := lw_g (lw_at lw_m2 197 rfl) rfl
theorem q574 : (Jvm.Cond.static ({ cls := "java/lang/StringLatin1", name := "canEncode", desc := "(I)Z" } : Jvm.MethodName)) ∈ lw_all := lw_g (lw_at lw_m2 198 rfl) rfl
theorem q575 : (Jvm.Cond.code ({ cls := "java/lang/StringLatin1", name := "canEncode", desc := "(I)Z" } : Jvm.MethodName) prog_31_method_4_code (1 : Nat) (Option.some Jvm.ClassFile.FieldType.boolean)) ∈ lw_all := lw_g (lw_at lw_m2 199 rfl) rfl
theorem q576 : (Jvm.Cond.methodLink "java/lang/StringLatin1" (92 : Nat) ({ cls := "java/lang/Math", name := "max", desc := "(II)I" } : Jvm.MethodName)) ∈ lw_all := lw_g (lw_at lw_m2 200 rfl) rfl
theorem q579 : (Jvm.Cond.methodLink "java/lang/StringLatin1" (38 : Nat) ({ cls := "java/lang/Math", name := "min", desc := "(II)I" } : Jvm.MethodName)) ∈ lw_all := lw_g (lw_at lw_m2 203 rfl) rfl
theorem q582 : (Jvm.Cond.methodLink "java/lang/StringLatin1" (95 : Nat) ({ cls := "java/lang/StringLatin1", name := "indexOfChar", desc := "([BIII)I" } : Jvm.MethodName)) ∈ lw_all := lw_g (lw_at lw_m2 206 rfl) rfl
theorem q583 : (Jvm.Cond.static ({ cls := "java/lang/StringLatin1", name := "indexOfChar", desc := "([BIII)I" } : Jvm.MethodName)) ∈ lw_all := lw_g (lw_at lw_m2 207 rfl) rfl
theorem q584 : (Jvm.Cond.code ({ cls := "java/lang/StringLatin1", name := "indexOfChar", desc := "([BIII)I" } : Jvm.MethodName) prog_31_method_23_code (6 : Nat) (Option.some Jvm.ClassFile.FieldType.int)) ∈ lw_all := lw_g (lw_at lw_m2 208 rfl) rfl
theorem q653 : (Jvm.Cond.static ({ cls := "java/lang/StringLatin1", name := "charAt", desc := "([BI)C" } : Jvm.MethodName)) ∈ lw_all := lw_g (lw_at lw_m3 37 rfl) rfl
theorem q654 : (Jvm.Cond.code ({ cls := "java/lang/StringLatin1", name := "charAt", desc := "([BI)C" } : Jvm.MethodName) prog_31_method_2_code (2 : Nat) (Option.some Jvm.ClassFile.FieldType.char)) ∈ lw_all := lw_g (lw_at lw_m3 38 rfl) rfl
theorem q655 : (Jvm.Cond.methodLink "java/lang/StringLatin1" (9 : Nat) ({ cls := "java/lang/String", name := "checkIndex", desc := "(II)V" } : Jvm.MethodName)) ∈ lw_all := lw_g (lw_at lw_m3 39 rfl) rfl
abbrev cJ2_max : ByteArray := prog_26_method_65_code
abbrev cJ2_min : ByteArray := prog_26_method_69_code
abbrev cJ2_min_2 : ByteArray := prog_26_method_70_code
abbrev cJ2_max_2 : ByteArray := prog_26_method_66_code
def RJ2 : String := "java/lang/Math"
def yJ2_max : MethodName := ⟨RJ2, "max", "(II)I"⟩
def yJ2_min : MethodName := ⟨RJ2, "min", "(II)I"⟩
def yJ2_min_2 : MethodName := ⟨RJ2, "min", "(JJ)J"⟩
def yJ2_max_2 : MethodName := ⟨RJ2, "max", "(JJ)J"⟩
theorem q151 : (Jvm.Cond.initialized "java/lang/Math") ∈ lw_all := lw_g (lw_at lw_m1 15 rfl) rfl
theorem q577 : (Jvm.Cond.static ({ cls := "java/lang/Math", name := "max", desc := "(II)I" } : Jvm.MethodName)) ∈ lw_all := lw_g (lw_at lw_m2 201 rfl) rfl
theorem q578 : (Jvm.Cond.code ({ cls := "java/lang/Math", name := "max", desc := "(II)I" } : Jvm.MethodName) prog_26_method_65_code (2 : Nat) (Option.some Jvm.ClassFile.FieldType.int)) ∈ lw_all := lw_g (lw_at lw_m2 202 rfl) rfl
theorem q580 : (Jvm.Cond.static ({ cls := "java/lang/Math", name := "min", desc := "(II)I" } : Jvm.MethodName)) ∈ lw_all := lw_g (lw_at lw_m2 204 rfl) rfl
theorem q581 : (Jvm.Cond.code ({ cls := "java/lang/Math", name := "min", desc := "(II)I" } : Jvm.MethodName) prog_26_method_69_code (2 : Nat) (Option.some Jvm.ClassFile.FieldType.int)) ∈ lw_all := lw_g (lw_at lw_m2 205 rfl) rfl
theorem q971 : (Jvm.Cond.static ({ cls := "java/lang/Math", name := "min", desc := "(JJ)J" } : Jvm.MethodName)) ∈ lw_all := lw_g (lw_at lw_m4 115 rfl) rfl
theorem q972 : (Jvm.Cond.code ({ cls := "java/lang/Math", name := "min", desc := "(JJ)J" } : Jvm.MethodName) prog_26_method_70_code (4 : Nat) (Option.some Jvm.ClassFile.FieldType.long)) ∈ lw_all := lw_g (lw_at lw_m4 116 rfl) rfl
theorem q974 : (Jvm.Cond.static ({ cls := "java/lang/Math", name := "max", desc := "(JJ)J" } : Jvm.MethodName)) ∈ lw_all := lw_g (lw_at lw_m4 118 rfl) rfl
theorem q975 : (Jvm.Cond.code ({ cls := "java/lang/Math", name := "max", desc := "(JJ)J" } : Jvm.MethodName) prog_26_method_66_code (4 : Nat) (Option.some Jvm.ClassFile.FieldType.long)) ∈ lw_all := lw_g (lw_at lw_m4 119 rfl) rfl
abbrev cJ3_indexOf : ByteArray := prog_32_method_40_code
abbrev cJ3_indexOfChar : ByteArray := prog_32_method_47_code
abbrev cJ3_checkBoundsBeginEnd : ByteArray := prog_32_method_93_code
abbrev cJ3_length : ByteArray := prog_32_method_6_code
abbrev cJ3_indexOfCharUnsafe : ByteArray := prog_32_method_48_code
abbrev cJ3_getChar : ByteArray := prog_32_method_5_code
abbrev cJ3_indexOfSupplementary : ByteArray := prog_32_method_49_code
abbrev cJ3_charAt : ByteArray := prog_32_method_83_code
abbrev cJ3_checkIndex : ByteArray := prog_32_method_91_code
def RJ3 : String := "java/lang/StringUTF16"
def yJ3_indexOf : MethodName := ⟨RJ3, "indexOf", "([BIII)I"⟩
def yJ3_indexOfChar : MethodName := ⟨RJ3, "indexOfChar", "([BIII)I"⟩
def yJ3_checkBoundsBeginEnd : MethodName := ⟨RJ3, "checkBoundsBeginEnd", "(II[B)V"⟩
def yJ3_length : MethodName := ⟨RJ3, "length", "([B)I"⟩
def yJ3_indexOfCharUnsafe : MethodName := ⟨RJ3, "indexOfCharUnsafe", "([BIII)I"⟩
def yJ3_getChar : MethodName := ⟨RJ3, "getChar", "([BI)C"⟩
def yJ3_indexOfSupplementary : MethodName := ⟨RJ3, "indexOfSupplementary", "([BIII)I"⟩
def yJ3_charAt : MethodName := ⟨RJ3, "charAt", "([BI)C"⟩
def yJ3_checkIndex : MethodName := ⟨RJ3, "checkIndex", "(I[B)V"⟩
theorem q152 : (Jvm.Cond.initialized "java/lang/StringUTF16") ∈ lw_all := lw_g (lw_at lw_m1 16 rfl) rfl
theorem q586 : (Jvm.Cond.static ({ cls := "java/lang/StringUTF16", name := "indexOf", desc := "([BIII)I" } : Jvm.MethodName)) ∈ lw_all := lw_g (lw_at lw_m2 210 rfl) rfl
theorem q587 : (Jvm.Cond.code ({ cls := "java/lang/StringUTF16", name := "indexOf", desc := "([BIII)I" } : Jvm.MethodName) prog_32_method_40_code (4 : Nat) (Option.some Jvm.ClassFile.FieldType.int)) ∈ lw_all := lw_g (lw_at lw_m2 211 rfl) rfl
theorem q588 : (Jvm.Cond.methodLink "java/lang/StringUTF16" (224 : Nat) ({ cls := "java/lang/Math", name := "max", desc := "(II)I" } : Jvm.MethodName)) ∈ lw_all := lw_g (lw_at lw_m2 212 rfl) rfl
theorem q589 : (Jvm.Cond.methodLink "java/lang/StringUTF16" (183 : Nat) ({ cls := "java/lang/Math", name := "min", desc := "(II)I" } : Jvm.MethodName)) ∈ lw_all := lw_g (lw_at lw_m2 213 rfl) rfl
theorem q590 : (Jvm.Cond.constant "java/lang/StringUTF16" (227 : Nat) (65536 : Int32)) ∈ lw_all := lw_g (lw_at lw_m2 214 rfl) rfl
theorem q591 : (Jvm.Cond.methodLink "java/lang/StringUTF16" (228 : Nat) ({ cls := "java/lang/StringUTF16", name := "indexOfChar", desc := "([BIII)I" } : Jvm.MethodName)) ∈ lw_all := lw_g (lw_at lw_m2 215 rfl) rfl
theorem q592 : (Jvm.Cond.static ({ cls := "java/lang/StringUTF16", name := "indexOfChar", desc := "([BIII)I" } : Jvm.MethodName)) ∈ lw_all := lw_g (lw_at lw_m2 216 rfl) rfl
theorem q593 : (Jvm.Cond.code ({ cls := "java/lang/StringUTF16", name := "indexOfChar", desc := "([BIII)I" } : Jvm.MethodName) prog_32_method_47_code (4 : Nat) (Option.some Jvm.ClassFile.FieldType.int)) ∈ lw_all := lw_g (lw_at lw_m2 217 rfl) rfl
theorem q594 : (Jvm.Cond.methodLink "java/lang/StringUTF16" (96 : Nat) ({ cls := "java/lang/StringUTF16", name := "checkBoundsBeginEnd", desc := "(II[B)V" } : Jvm.MethodName)) ∈ lw_all := lw_g (lw_at lw_m2 218 rfl) rfl
theorem q595 : (Jvm.Cond.static ({ cls := "java/lang/StringUTF16", name := "checkBoundsBeginEnd", desc := "(II[B)V" } : Jvm.MethodName)) ∈ lw_all := lw_g (lw_at lw_m2 219 rfl) rfl
theorem q596 : (Jvm.Cond.code ({ cls := "java/lang/StringUTF16", name := "checkBoundsBeginEnd", desc := "(II[B)V" } : Jvm.MethodName) prog_32_method_93_code (3 : Nat) (Option.none : Option Jvm.ClassFile.FieldType)) ∈ lw_all := lw_g (lw_at lw_m2 220 rfl) rfl
theorem q597 : (Jvm.Cond.methodLink "java/lang/StringUTF16" (48 : Nat) ({ cls := "java/lang/StringUTF16", name := "length", desc := "([B)I" } : Jvm.MethodName)) ∈ lw_all := lw_g (lw_at lw_m2 221 rfl) rfl
theorem q598 : (Jvm.Cond.static ({ cls := "java/lang/StringUTF16", name := "length", desc := "([B)I" } : Jvm.MethodName)) ∈ lw_all := lw_g (lw_at lw_m2 222 rfl) rfl
theorem q599 : (Jvm.Cond.code ({ cls := "java/lang/StringUTF16", name := "length", desc := "([B)I" } : Jvm.MethodName) prog_32_method_6_code (1 : Nat) (Option.some Jvm.ClassFile.FieldType.int)) ∈ lw_all := lw_g (lw_at lw_m2 223 rfl) rfl
theorem q600 : (Jvm.Cond.methodLink "java/lang/StringUTF16" (241 : Nat) ({ cls := "java/lang/String", name := "checkBoundsBeginEnd", desc := "(III)V" } : Jvm.MethodName)) ∈ lw_all := lw_g (lw_at lw_m2 224 rfl) rfl
theorem q608 : (Jvm.Cond.methodLink "java/lang/StringUTF16" (244 : Nat) ({ cls := "java/lang/StringUTF16", name := "indexOfCharUnsafe", desc := "([BIII)I" } : Jvm.MethodName)) ∈ lw_all := lw_g (lw_at lw_m2 232 rfl) rfl
theorem q609 : (Jvm.Cond.static ({ cls := "java/lang/StringUTF16", name := "indexOfCharUnsafe", desc := "([BIII)I" } : Jvm.MethodName)) ∈ lw_all := lw_g (lw_at lw_m2 233 rfl) rfl
theorem q610 : (Jvm.Cond.code ({ cls := "java/lang/StringUTF16", name := "indexOfCharUnsafe", desc := "([BIII)I" } : Jvm.MethodName) prog_32_method_48_code (5 : Nat) (Option.some Jvm.ClassFile.FieldType.int)) ∈ lw_all := lw_g (lw_at lw_m2 234 rfl) rfl
theorem q611 : (Jvm.Cond.methodLink "java/lang/StringUTF16" (71 : Nat) ({ cls := "java/lang/StringUTF16", name := "getChar", desc := "([BI)C" } : Jvm.MethodName)) ∈ lw_all := lw_g (lw_at lw_m2 235 rfl) rfl
theorem q612 : (Jvm.Cond.static ({ cls := "java/lang/StringUTF16", name := "getChar", desc := "([BI)C" } : Jvm.MethodName)) ∈ lw_all := lw_g (lw_at lw_m2 236 rfl) rfl
theorem q613 : (Jvm.Cond.code ({ cls := "java/lang/StringUTF16", name := "getChar", desc := "([BI)C" } : Jvm.MethodName) prog_32_method_5_code (2 : Nat) (Option.some Jvm.ClassFile.FieldType.char)) ∈ lw_all := lw_g (lw_at lw_m2 237 rfl) rfl
theorem q614 : (Jvm.Cond.fieldLink "java/lang/StringUTF16" (44 : Nat) "java/lang/StringUTF16" "$assertionsDisabled" "Z") ∈ lw_all := lw_g (lw_at lw_m2 238 rfl) rfl
theorem q615 : (Jvm.Cond.laysStatic "java/lang/StringUTF16" "$assertionsDisabled" "Z") ∈ lw_tbl := lw_at lw_m2 239 rfl
theorem q616 : (Jvm.Cond.fieldLink "java/lang/StringUTF16" (59 : Nat) "java/lang/StringUTF16" "HI_BYTE_SHIFT" "I") ∈ lw_all := lw_g (lw_at lw_m3 0 rfl) rfl
theorem q617 : (Jvm.Cond.laysStatic "java/lang/StringUTF16" "HI_BYTE_SHIFT" "I") ∈ lw_tbl := lw_at lw_m3 1 rfl
theorem q618 : (Jvm.Cond.fieldLink "java/lang/StringUTF16" (63 : Nat) "java/lang/StringUTF16" "LO_BYTE_SHIFT" "I") ∈ lw_all := lw_g (lw_at lw_m3 2 rfl) rfl
theorem q619 : (Jvm.Cond.laysStatic "java/lang/StringUTF16" "LO_BYTE_SHIFT" "I") ∈ lw_tbl := lw_at lw_m3 3 rfl
theorem q620 : (Jvm.Cond.methodLink "java/lang/StringUTF16" (232 : Nat) ({ cls := "java/lang/StringUTF16", name := "indexOfSupplementary", desc := "([BIII)I" } : Jvm.MethodName)) ∈ lw_all := lw_g (lw_at lw_m3 4 rfl) rfl
theorem q621 : (Jvm.Cond.static ({ cls := "java/lang/StringUTF16", name := "indexOfSupplementary", desc := "([BIII)I" } : Jvm.MethodName)) ∈ lw_all := lw_g (lw_at lw_m3 5 rfl) rfl
theorem q622 : (Jvm.Cond.code ({ cls := "java/lang/StringUTF16", name := "indexOfSupplementary", desc := "([BIII)I" } : Jvm.MethodName) prog_32_method_49_code (7 : Nat) (Option.some Jvm.ClassFile.FieldType.int)) ∈ lw_all := lw_g (lw_at lw_m3 6 rfl) rfl
theorem q623 : (Jvm.Cond.methodLink "java/lang/StringUTF16" (164 : Nat) ({ cls := "java/lang/Character", name := "isValidCodePoint", desc := "(I)Z" } : Jvm.MethodName)) ∈ lw_all := lw_g (lw_at lw_m3 7 rfl) rfl
theorem q626 : (Jvm.Cond.methodLink "java/lang/StringUTF16" (157 : Nat) ({ cls := "java/lang/Character", name := "highSurrogate", desc := "(I)C" } : Jvm.MethodName)) ∈ lw_all := lw_g (lw_at lw_m3 10 rfl) rfl
theorem q630 : (Jvm.Cond.methodLink "java/lang/StringUTF16" (161 : Nat) ({ cls := "java/lang/Character", name := "lowSurrogate", desc := "(I)C" } : Jvm.MethodName)) ∈ lw_all := lw_g (lw_at lw_m3 14 rfl) rfl
theorem q662 : (Jvm.Cond.static ({ cls := "java/lang/StringUTF16", name := "charAt", desc := "([BI)C" } : Jvm.MethodName)) ∈ lw_all := lw_g (lw_at lw_m3 46 rfl) rfl
theorem q663 : (Jvm.Cond.code ({ cls := "java/lang/StringUTF16", name := "charAt", desc := "([BI)C" } : Jvm.MethodName) prog_32_method_83_code (2 : Nat) (Option.some Jvm.ClassFile.FieldType.char)) ∈ lw_all := lw_g (lw_at lw_m3 47 rfl) rfl
theorem q664 : (Jvm.Cond.methodLink "java/lang/StringUTF16" (67 : Nat) ({ cls := "java/lang/StringUTF16", name := "checkIndex", desc := "(I[B)V" } : Jvm.MethodName)) ∈ lw_all := lw_g (lw_at lw_m3 48 rfl) rfl
theorem q665 : (Jvm.Cond.static ({ cls := "java/lang/StringUTF16", name := "checkIndex", desc := "(I[B)V" } : Jvm.MethodName)) ∈ lw_all := lw_g (lw_at lw_m3 49 rfl) rfl
theorem q666 : (Jvm.Cond.code ({ cls := "java/lang/StringUTF16", name := "checkIndex", desc := "(I[B)V" } : Jvm.MethodName) prog_32_method_91_code (2 : Nat) (Option.none : Option Jvm.ClassFile.FieldType)) ∈ lw_all := lw_g (lw_at lw_m3 50 rfl) rfl
theorem q667 : (Jvm.Cond.methodLink "java/lang/StringUTF16" (414 : Nat) ({ cls := "java/lang/String", name := "checkIndex", desc := "(II)V" } : Jvm.MethodName)) ∈ lw_all := lw_g (lw_at lw_m3 51 rfl) rfl
abbrev cJ4_checkFromToIndex : ByteArray := prog_35_method_12_code
abbrev cJ4_checkIndex : ByteArray := prog_35_method_11_code
def RJ4 : String := "jdk/internal/util/Preconditions"
def yJ4_checkFromToIndex : MethodName := ⟨RJ4, "checkFromToIndex", "(IIILjava/util/function/BiFunction;)I"⟩
def yJ4_checkIndex : MethodName := ⟨RJ4, "checkIndex", "(IILjava/util/function/BiFunction;)I"⟩
theorem q153 : (Jvm.Cond.initialized "jdk/internal/util/Preconditions") ∈ lw_all := lw_g (lw_at lw_m1 17 rfl) rfl
theorem q604 : (Jvm.Cond.laysStatic "jdk/internal/util/Preconditions" "SIOOBE_FORMATTER" "Ljava/util/function/BiFunction;") ∈ lw_tbl := lw_at lw_m2 228 rfl
theorem q606 : (Jvm.Cond.static ({ cls := "jdk/internal/util/Preconditions", name := "checkFromToIndex", desc := "(IIILjava/util/function/BiFunction;)I" } : Jvm.MethodName)) ∈ lw_all := lw_g (lw_at lw_m2 230 rfl) rfl
theorem q607 : (Jvm.Cond.code ({ cls := "jdk/internal/util/Preconditions", name := "checkFromToIndex", desc := "(IIILjava/util/function/BiFunction;)I" } : Jvm.MethodName) prog_35_method_12_code (4 : Nat) (Option.some Jvm.ClassFile.FieldType.int)) ∈ lw_all := lw_g (lw_at lw_m2 231 rfl) rfl
theorem q659 : (Jvm.Cond.static ({ cls := "jdk/internal/util/Preconditions", name := "checkIndex", desc := "(IILjava/util/function/BiFunction;)I" } : Jvm.MethodName)) ∈ lw_all := lw_g (lw_at lw_m3 43 rfl) rfl
theorem q660 : (Jvm.Cond.code ({ cls := "jdk/internal/util/Preconditions", name := "checkIndex", desc := "(IILjava/util/function/BiFunction;)I" } : Jvm.MethodName) prog_35_method_11_code (3 : Nat) (Option.some Jvm.ClassFile.FieldType.int)) ∈ lw_all := lw_g (lw_at lw_m3 44 rfl) rfl
abbrev cJ5_isValidCodePoint : ByteArray := prog_22_method_11_code
abbrev cJ5_highSurrogate : ByteArray := prog_22_method_28_code
abbrev cJ5_lowSurrogate : ByteArray := prog_22_method_29_code
def RJ5 : String := "java/lang/Character"
def yJ5_isValidCodePoint : MethodName := ⟨RJ5, "isValidCodePoint", "(I)Z"⟩
def yJ5_highSurrogate : MethodName := ⟨RJ5, "highSurrogate", "(I)C"⟩
def yJ5_lowSurrogate : MethodName := ⟨RJ5, "lowSurrogate", "(I)C"⟩
theorem q154 : (Jvm.Cond.initialized "java/lang/Character") ∈ lw_all := lw_g (lw_at lw_m1 18 rfl) rfl
theorem q624 : (Jvm.Cond.static ({ cls := "java/lang/Character", name := "isValidCodePoint", desc := "(I)Z" } : Jvm.MethodName)) ∈ lw_all := lw_g (lw_at lw_m3 8 rfl) rfl
theorem q625 : (Jvm.Cond.code ({ cls := "java/lang/Character", name := "isValidCodePoint", desc := "(I)Z" } : Jvm.MethodName) prog_22_method_11_code (2 : Nat) (Option.some Jvm.ClassFile.FieldType.boolean)) ∈ lw_all := lw_g (lw_at lw_m3 9 rfl) rfl
theorem q627 : (Jvm.Cond.static ({ cls := "java/lang/Character", name := "highSurrogate", desc := "(I)C" } : Jvm.MethodName)) ∈ lw_all := lw_g (lw_at lw_m3 11 rfl) rfl
theorem q628 : (Jvm.Cond.code ({ cls := "java/lang/Character", name := "highSurrogate", desc := "(I)C" } : Jvm.MethodName) prog_22_method_28_code (1 : Nat) (Option.some Jvm.ClassFile.FieldType.char)) ∈ lw_all := lw_g (lw_at lw_m3 12 rfl) rfl
theorem q629 : (Jvm.Cond.constant "java/lang/Character" (110 : Nat) (55232 : Int32)) ∈ lw_all := lw_g (lw_at lw_m3 13 rfl) rfl
theorem q631 : (Jvm.Cond.static ({ cls := "java/lang/Character", name := "lowSurrogate", desc := "(I)C" } : Jvm.MethodName)) ∈ lw_all := lw_g (lw_at lw_m3 15 rfl) rfl
theorem q632 : (Jvm.Cond.code ({ cls := "java/lang/Character", name := "lowSurrogate", desc := "(I)C" } : Jvm.MethodName) prog_22_method_29_code (1 : Nat) (Option.some Jvm.ClassFile.FieldType.char)) ∈ lw_all := lw_g (lw_at lw_m3 16 rfl) rfl
theorem q633 : (Jvm.Cond.constant "java/lang/Character" (76 : Nat) (56320 : Int32)) ∈ lw_all := lw_g (lw_at lw_m3 17 rfl) rfl
abbrev cJ6_bitCount : ByteArray := prog_25_method_49_code
abbrev cJ6_numberOfTrailingZeros : ByteArray := prog_25_method_48_code
def RJ6 : String := "java/lang/Integer"
def yJ6_bitCount : MethodName := ⟨RJ6, "bitCount", "(I)I"⟩
def yJ6_numberOfTrailingZeros : MethodName := ⟨RJ6, "numberOfTrailingZeros", "(I)I"⟩
theorem q163 : (Jvm.Cond.initialized "java/lang/Integer") ∈ lw_all := lw_g (lw_at lw_m1 27 rfl) rfl
theorem q1020 : (Jvm.Cond.static ({ cls := "java/lang/Integer", name := "bitCount", desc := "(I)I" } : Jvm.MethodName)) ∈ lw_all := lw_g (lw_at lw_m4 164 rfl) rfl
theorem q1021 : (Jvm.Cond.code ({ cls := "java/lang/Integer", name := "bitCount", desc := "(I)I" } : Jvm.MethodName) prog_25_method_49_code (1 : Nat) (Option.some Jvm.ClassFile.FieldType.int)) ∈ lw_all := lw_g (lw_at lw_m4 165 rfl) rfl
theorem q1022 : (Jvm.Cond.constant "java/lang/Integer" (265 : Nat) (1431655765 : Int32)) ∈ lw_all := lw_g (lw_at lw_m4 166 rfl) rfl
theorem q1023 : (Jvm.Cond.constant "java/lang/Integer" (266 : Nat) (858993459 : Int32)) ∈ lw_all := lw_g (lw_at lw_m4 167 rfl) rfl
theorem q1024 : (Jvm.Cond.constant "java/lang/Integer" (267 : Nat) (252645135 : Int32)) ∈ lw_all := lw_g (lw_at lw_m4 168 rfl) rfl
theorem q1190 : (Jvm.Cond.static ({ cls := "java/lang/Integer", name := "numberOfTrailingZeros", desc := "(I)I" } : Jvm.MethodName)) ∈ lw_all := lw_g (lw_at lw_m5 94 rfl) rfl
theorem q1191 : (Jvm.Cond.code ({ cls := "java/lang/Integer", name := "numberOfTrailingZeros", desc := "(I)I" } : Jvm.MethodName) prog_25_method_48_code (2 : Nat) (Option.some Jvm.ClassFile.FieldType.int)) ∈ lw_all := lw_g (lw_at lw_m5 95 rfl) rfl
theorem q1192 : (Jvm.Cond.constant "java/lang/Integer" (264 : Nat) (65536 : Int32)) ∈ lw_all := lw_g (lw_at lw_m5 96 rfl) rfl
abbrev cJ7_init : ByteArray := prog_34_method_2_code
abbrev cJ7_init_2 : ByteArray := prog_34_method_1_code
def RJ7 : String := "java/lang/Throwable"
def TJ7 : u_T := fun k => match k with
  | 0 => ("java/lang/Throwable", "cause", "Ljava/lang/Throwable;", false)
  | 1 => ("java/lang/Throwable", "stackTrace", "[Ljava/lang/StackTraceElement;", false)
  | 2 => ("java/lang/Throwable", "suppressedExceptions", "Ljava/util/List;", false)
  | 3 => ("java/lang/Throwable", "detailMessage", "Ljava/lang/String;", false)
  | _ => ("java/lang/Throwable", "backtrace", "Ljava/lang/Object;", false)
def tyJ7 : Nat → FieldType := fun k => match k with
  | 0 => .object "java/lang/Throwable"
  | 1 => .array (.object "java/lang/StackTraceElement")
  | 2 => .object "java/util/List"
  | 3 => .object "java/lang/String"
  | _ => .object "java/lang/Object"
abbrev wsJ70 : List Cond := u_ws RJ7 TJ7 5
theorem nmJ7 : ∀ a, a < 5 → ∀ b, b < 5 → a ≠ b → (TJ7 a).2.1 ≠ (TJ7 b).2.1 := by decide +kernel
theorem tyJ7_ok : ∀ k, k < 5 → parseFieldDescriptor (TJ7 k).2.2.1 = some (tyJ7 k) := by decide +kernel
def yJ7_init : MethodName := ⟨RJ7, "<init>", "(Ljava/lang/String;)V"⟩
def yJ7_init_2 : MethodName := ⟨RJ7, "<init>", "()V"⟩
theorem q164 : (Jvm.Cond.initialized "java/lang/Throwable") ∈ lw_all := lw_g (lw_at lw_m1 28 rfl) rfl
theorem q1327 : (Jvm.Cond.instanceMethod ({ cls := "java/lang/Throwable", name := "<init>", desc := "(Ljava/lang/String;)V" } : Jvm.MethodName)) ∈ lw_all := lw_g (lw_at lw_m5 231 rfl) rfl
theorem q1328 : (Jvm.Cond.code ({ cls := "java/lang/Throwable", name := "<init>", desc := "(Ljava/lang/String;)V" } : Jvm.MethodName) prog_34_method_2_code (2 : Nat) (Option.none : Option Jvm.ClassFile.FieldType)) ∈ lw_all := lw_g (lw_at lw_m5 232 rfl) rfl
theorem q1329 : (Jvm.Cond.methodLink "java/lang/Throwable" (1 : Nat) ({ cls := "java/lang/Object", name := "<init>", desc := "()V" } : Jvm.MethodName)) ∈ lw_all := lw_g (lw_at lw_m5 233 rfl) rfl
theorem q1330 : (Jvm.Cond.fieldLink "java/lang/Throwable" (13 : Nat) "java/lang/Throwable" "UNASSIGNED_STACK" "[Ljava/lang/StackTraceElement;") ∈ lw_all := lw_g (lw_at lw_m5 234 rfl) rfl
theorem q1331 : (Jvm.Cond.laysStatic "java/lang/Throwable" "UNASSIGNED_STACK" "[Ljava/lang/StackTraceElement;") ∈ lw_tbl := lw_at lw_m5 235 rfl
theorem q1332 : (Jvm.Cond.fieldLink "java/lang/Throwable" (20 : Nat) "java/lang/Throwable" "SUPPRESSED_SENTINEL" "Ljava/util/List;") ∈ lw_all := lw_g (lw_at lw_m5 236 rfl) rfl
theorem q1333 : (Jvm.Cond.laysStatic "java/lang/Throwable" "SUPPRESSED_SENTINEL" "Ljava/util/List;") ∈ lw_tbl := lw_at lw_m5 237 rfl
theorem q1334 : (Jvm.Cond.methodLink "java/lang/Throwable" (27 : Nat) ({ cls := "java/lang/Throwable", name := "fillInStackTrace", desc := "()Ljava/lang/Throwable;" } : Jvm.MethodName)) ∈ lw_all := lw_g (lw_at lw_m5 238 rfl) rfl
theorem q1335 : (Jvm.Cond.instanceMethod ({ cls := "java/lang/Throwable", name := "fillInStackTrace", desc := "()Ljava/lang/Throwable;" } : Jvm.MethodName)) ∈ lw_all := lw_g (lw_at lw_m5 239 rfl) rfl
theorem q1336 : (Jvm.Cond.sameMethod "java/lang/Throwable" "java/lang/Throwable" "fillInStackTrace" "()Ljava/lang/Throwable;") ∈ lw_all := lw_g (lw_at lw_m6 0 rfl) rfl
theorem q1349 : (Jvm.Cond.declares ({ cls := "java/lang/Throwable", name := "fillInStackTrace", desc := "()Ljava/lang/Throwable;" } : Jvm.MethodName)) ∈ lw_tbl := lw_at lw_m6 13 rfl
theorem q1353 : (Jvm.Cond.codeSync ({ cls := "java/lang/Throwable", name := "fillInStackTrace", desc := "()Ljava/lang/Throwable;" } : Jvm.MethodName) prog_34_method_18_code (1 : Nat) (Option.some (Jvm.ClassFile.FieldType.object "java/lang/Throwable"))) ∈ lw_all := lw_g (lw_at lw_m6 17 rfl) rfl
theorem q1354 : (Jvm.Cond.methodLink "java/lang/Throwable" (202 : Nat) ({ cls := "java/lang/Throwable", name := "fillInStackTrace", desc := "(I)Ljava/lang/Throwable;" } : Jvm.MethodName)) ∈ lw_all := lw_g (lw_at lw_m6 18 rfl) rfl
theorem q1355 : (Jvm.Cond.privateMethod ({ cls := "java/lang/Throwable", name := "fillInStackTrace", desc := "(I)Ljava/lang/Throwable;" } : Jvm.MethodName)) ∈ lw_tbl := lw_at lw_m6 19 rfl
theorem q1356 : (Jvm.Cond.instanceMethod ({ cls := "java/lang/Throwable", name := "fillInStackTrace", desc := "(I)Ljava/lang/Throwable;" } : Jvm.MethodName)) ∈ lw_all := lw_g (lw_at lw_m6 20 rfl) rfl
theorem q1357 : (Jvm.Cond.instantiable "java/lang/Throwable" (6 : Nat)) ∈ lw_all := lw_g (lw_at lw_m6 21 rfl) rfl
theorem q1358 : (Jvm.Cond.native ({ cls := "java/lang/Throwable", name := "fillInStackTrace", desc := "(I)Ljava/lang/Throwable;" } : Jvm.MethodName)) ∈ lw_all := lw_g (lw_at lw_m6 22 rfl) rfl
theorem q1359 : (Jvm.Cond.fieldLink "java/lang/Throwable" (198 : Nat) "java/lang/Throwable" "backtrace" "Ljava/lang/Object;") ∈ lw_all := lw_g (lw_at lw_m6 23 rfl) rfl
theorem q1360 : (Jvm.Cond.fieldLink "java/lang/Throwable" (31 : Nat) "java/lang/Throwable" "detailMessage" "Ljava/lang/String;") ∈ lw_all := lw_g (lw_at lw_m6 24 rfl) rfl
theorem q1361 : (Jvm.Cond.fieldLink "java/lang/Throwable" (7 : Nat) "java/lang/Throwable" "cause" "Ljava/lang/Throwable;") ∈ lw_all := lw_g (lw_at lw_m6 25 rfl) rfl
theorem q1362 : (Jvm.Cond.fieldLink "java/lang/Throwable" (17 : Nat) "java/lang/Throwable" "stackTrace" "[Ljava/lang/StackTraceElement;") ∈ lw_all := lw_g (lw_at lw_m6 26 rfl) rfl
theorem q1363 : (Jvm.Cond.fieldLink "java/lang/Throwable" (24 : Nat) "java/lang/Throwable" "suppressedExceptions" "Ljava/util/List;") ∈ lw_all := lw_g (lw_at lw_m6 27 rfl) rfl
theorem q1365 : (Jvm.Cond.soleField "java/lang/Throwable" "backtrace") ∈ lw_all := lw_g (lw_at lw_m6 29 rfl) rfl
theorem q1367 : (Jvm.Cond.soleField "java/lang/Throwable" "detailMessage") ∈ lw_all := lw_g (lw_at lw_m6 31 rfl) rfl
theorem q1369 : (Jvm.Cond.soleField "java/lang/Throwable" "cause") ∈ lw_all := lw_g (lw_at lw_m6 33 rfl) rfl
theorem q1371 : (Jvm.Cond.soleField "java/lang/Throwable" "stackTrace") ∈ lw_all := lw_g (lw_at lw_m6 35 rfl) rfl
theorem q1373 : (Jvm.Cond.soleField "java/lang/Throwable" "depth") ∈ lw_all := lw_g (lw_at lw_m6 37 rfl) rfl
theorem q1375 : (Jvm.Cond.soleField "java/lang/Throwable" "suppressedExceptions") ∈ lw_all := lw_g (lw_at lw_m6 39 rfl) rfl
theorem q1382 : (Jvm.Cond.declares ({ cls := "java/lang/Throwable", name := "<init>", desc := "()V" } : Jvm.MethodName)) ∈ lw_tbl := lw_at lw_m6 46 rfl
theorem q1383 : (Jvm.Cond.declares ({ cls := "java/lang/Throwable", name := "<init>", desc := "(Ljava/lang/String;)V" } : Jvm.MethodName)) ∈ lw_tbl := lw_at lw_m6 47 rfl
theorem q1385 : (Jvm.Cond.lays "java/lang/Throwable" "java/lang/Throwable" "cause" "Ljava/lang/Throwable;") ∈ lw_all := lw_g (lw_at lw_m6 49 rfl) rfl
theorem q1386 : (Jvm.Cond.lays "java/lang/Throwable" "java/lang/Throwable" "stackTrace" "[Ljava/lang/StackTraceElement;") ∈ lw_all := lw_g (lw_at lw_m6 50 rfl) rfl
theorem q1387 : (Jvm.Cond.lays "java/lang/Throwable" "java/lang/Throwable" "suppressedExceptions" "Ljava/util/List;") ∈ lw_all := lw_g (lw_at lw_m6 51 rfl) rfl
theorem q1388 : (Jvm.Cond.lays "java/lang/Throwable" "java/lang/Throwable" "detailMessage" "Ljava/lang/String;") ∈ lw_all := lw_g (lw_at lw_m6 52 rfl) rfl
theorem q1389 : (Jvm.Cond.lays "java/lang/Throwable" "java/lang/Throwable" "backtrace" "Ljava/lang/Object;") ∈ lw_all := lw_g (lw_at lw_m6 53 rfl) rfl
theorem q1390 : (Jvm.Cond.fieldLink "java/lang/Throwable" (198 : Nat) "java/lang/Throwable" "backtrace" "Ljava/lang/Object;") ∈ lw_all := lw_g (lw_at lw_m6 54 rfl) rfl
theorem q1391 : (Jvm.Cond.superclass "java/lang/Throwable" "java/lang/Object") ∈ lw_all := lw_g (lw_at lw_m6 55 rfl) rfl
theorem q1392 : (Jvm.Cond.instanceMethod ({ cls := "java/lang/Throwable", name := "<init>", desc := "()V" } : Jvm.MethodName)) ∈ lw_all := lw_g (lw_at lw_m6 56 rfl) rfl
theorem q1393 : (Jvm.Cond.code ({ cls := "java/lang/Throwable", name := "<init>", desc := "()V" } : Jvm.MethodName) prog_34_method_1_code (1 : Nat) (Option.none : Option Jvm.ClassFile.FieldType)) ∈ lw_all := lw_g (lw_at lw_m6 57 rfl) rfl
theorem q2087 : (Jvm.Cond.sameMethod "java/lang/Throwable" "java/lang/Throwable" "fillInStackTrace" "(I)Ljava/lang/Throwable;") ∈ lw_all := lw_g (lw_at lw_m9 31 rfl) rfl
theorem in_J7 : ∀ w ∈ wsJ70, w ∈ lw_all := lw_in wsJ70 [1385, 1386, 1387, 1388, 1389] (by decide +kernel) (by decide +kernel)
abbrev cJ8_init : ByteArray := prog_23_method_2_code
abbrev cJ8_init_2 : ByteArray := prog_23_method_1_code
def RJ8 : String := "java/lang/Exception"
def yJ8_init : MethodName := ⟨RJ8, "<init>", "(Ljava/lang/String;)V"⟩
def yJ8_init_2 : MethodName := ⟨RJ8, "<init>", "()V"⟩
theorem q165 : (Jvm.Cond.initialized "java/lang/Exception") ∈ lw_all := lw_g (lw_at lw_m1 29 rfl) rfl
theorem q1324 : (Jvm.Cond.instanceMethod ({ cls := "java/lang/Exception", name := "<init>", desc := "(Ljava/lang/String;)V" } : Jvm.MethodName)) ∈ lw_all := lw_g (lw_at lw_m5 228 rfl) rfl
theorem q1325 : (Jvm.Cond.code ({ cls := "java/lang/Exception", name := "<init>", desc := "(Ljava/lang/String;)V" } : Jvm.MethodName) prog_23_method_2_code (2 : Nat) (Option.none : Option Jvm.ClassFile.FieldType)) ∈ lw_all := lw_g (lw_at lw_m5 229 rfl) rfl
theorem q1326 : (Jvm.Cond.methodLink "java/lang/Exception" (7 : Nat) ({ cls := "java/lang/Throwable", name := "<init>", desc := "(Ljava/lang/String;)V" } : Jvm.MethodName)) ∈ lw_all := lw_g (lw_at lw_m5 230 rfl) rfl
theorem q1352 : (Jvm.Cond.superclass "java/lang/Exception" "java/lang/Throwable") ∈ lw_all := lw_g (lw_at lw_m6 16 rfl) rfl
theorem q1380 : (Jvm.Cond.declares ({ cls := "java/lang/Exception", name := "<init>", desc := "()V" } : Jvm.MethodName)) ∈ lw_tbl := lw_at lw_m6 44 rfl
theorem q1381 : (Jvm.Cond.declares ({ cls := "java/lang/Exception", name := "<init>", desc := "(Ljava/lang/String;)V" } : Jvm.MethodName)) ∈ lw_tbl := lw_at lw_m6 45 rfl
theorem q1411 : (Jvm.Cond.instanceMethod ({ cls := "java/lang/Exception", name := "<init>", desc := "()V" } : Jvm.MethodName)) ∈ lw_all := lw_g (lw_at lw_m6 75 rfl) rfl
theorem q1412 : (Jvm.Cond.code ({ cls := "java/lang/Exception", name := "<init>", desc := "()V" } : Jvm.MethodName) prog_23_method_1_code (1 : Nat) (Option.none : Option Jvm.ClassFile.FieldType)) ∈ lw_all := lw_g (lw_at lw_m6 76 rfl) rfl
theorem q1413 : (Jvm.Cond.methodLink "java/lang/Exception" (1 : Nat) ({ cls := "java/lang/Throwable", name := "<init>", desc := "()V" } : Jvm.MethodName)) ∈ lw_all := lw_g (lw_at lw_m6 77 rfl) rfl
abbrev cJ9_init : ByteArray := prog_29_method_2_code
abbrev cJ9_init_2 : ByteArray := prog_29_method_1_code
def RJ9 : String := "java/lang/RuntimeException"
def yJ9_init : MethodName := ⟨RJ9, "<init>", "(Ljava/lang/String;)V"⟩
def yJ9_init_2 : MethodName := ⟨RJ9, "<init>", "()V"⟩
theorem q166 : (Jvm.Cond.initialized "java/lang/RuntimeException") ∈ lw_all := lw_g (lw_at lw_m1 30 rfl) rfl
theorem q1321 : (Jvm.Cond.instanceMethod ({ cls := "java/lang/RuntimeException", name := "<init>", desc := "(Ljava/lang/String;)V" } : Jvm.MethodName)) ∈ lw_all := lw_g (lw_at lw_m5 225 rfl) rfl
theorem q1322 : (Jvm.Cond.code ({ cls := "java/lang/RuntimeException", name := "<init>", desc := "(Ljava/lang/String;)V" } : Jvm.MethodName) prog_29_method_2_code (2 : Nat) (Option.none : Option Jvm.ClassFile.FieldType)) ∈ lw_all := lw_g (lw_at lw_m5 226 rfl) rfl
theorem q1323 : (Jvm.Cond.methodLink "java/lang/RuntimeException" (7 : Nat) ({ cls := "java/lang/Exception", name := "<init>", desc := "(Ljava/lang/String;)V" } : Jvm.MethodName)) ∈ lw_all := lw_g (lw_at lw_m5 227 rfl) rfl
theorem q1348 : (Jvm.Cond.sameMethod "java/lang/RuntimeException" "java/lang/Throwable" "fillInStackTrace" "()Ljava/lang/Throwable;") ∈ lw_all := lw_g (lw_at lw_m6 12 rfl) rfl
theorem q1351 : (Jvm.Cond.superclass "java/lang/RuntimeException" "java/lang/Exception") ∈ lw_all := lw_g (lw_at lw_m6 15 rfl) rfl
theorem q1378 : (Jvm.Cond.declares ({ cls := "java/lang/RuntimeException", name := "<init>", desc := "()V" } : Jvm.MethodName)) ∈ lw_tbl := lw_at lw_m6 42 rfl
theorem q1379 : (Jvm.Cond.declares ({ cls := "java/lang/RuntimeException", name := "<init>", desc := "(Ljava/lang/String;)V" } : Jvm.MethodName)) ∈ lw_tbl := lw_at lw_m6 43 rfl
theorem q1408 : (Jvm.Cond.instanceMethod ({ cls := "java/lang/RuntimeException", name := "<init>", desc := "()V" } : Jvm.MethodName)) ∈ lw_all := lw_g (lw_at lw_m6 72 rfl) rfl
theorem q1409 : (Jvm.Cond.code ({ cls := "java/lang/RuntimeException", name := "<init>", desc := "()V" } : Jvm.MethodName) prog_29_method_1_code (1 : Nat) (Option.none : Option Jvm.ClassFile.FieldType)) ∈ lw_all := lw_g (lw_at lw_m6 73 rfl) rfl
theorem q1410 : (Jvm.Cond.methodLink "java/lang/RuntimeException" (1 : Nat) ({ cls := "java/lang/Exception", name := "<init>", desc := "()V" } : Jvm.MethodName)) ∈ lw_all := lw_g (lw_at lw_m6 74 rfl) rfl
theorem q1428 : (Jvm.Cond.castable "java/lang/RuntimeException" "java/lang/Throwable") ∈ lw_tbl := lw_at lw_m6 92 rfl
abbrev cJ10_init : ByteArray := prog_27_method_2_code
def RJ10 : String := "java/lang/NegativeArraySizeException"
def TJ10 : u_T := fun k => match k with
  | 0 => ("java/lang/Throwable", "backtrace", "Ljava/lang/Object;", false)
  | 1 => ("java/lang/Throwable", "detailMessage", "Ljava/lang/String;", false)
  | 2 => ("java/lang/Throwable", "cause", "Ljava/lang/Throwable;", false)
  | 3 => ("java/lang/Throwable", "stackTrace", "[Ljava/lang/StackTraceElement;", false)
  | 4 => ("java/lang/Throwable", "depth", "I", false)
  | _ => ("java/lang/Throwable", "suppressedExceptions", "Ljava/util/List;", false)
def tyJ10 : Nat → FieldType := fun k => match k with
  | 0 => .object "java/lang/Object"
  | 1 => .object "java/lang/String"
  | 2 => .object "java/lang/Throwable"
  | 3 => .array (.object "java/lang/StackTraceElement")
  | 4 => .int
  | _ => .object "java/util/List"
abbrev wsJ100 : List Cond := u_ws RJ10 TJ10 6
theorem nmJ10 : ∀ a, a < 6 → ∀ b, b < 6 → a ≠ b → (TJ10 a).2.1 ≠ (TJ10 b).2.1 := by decide +kernel
theorem tyJ10_ok : ∀ k, k < 6 → parseFieldDescriptor (TJ10 k).2.2.1 = some (tyJ10 k) := by decide +kernel
def yJ10_init : MethodName := ⟨RJ10, "<init>", "(Ljava/lang/String;)V"⟩
theorem q167 : (Jvm.Cond.initialized "java/lang/NegativeArraySizeException") ∈ lw_all := lw_g (lw_at lw_m1 31 rfl) rfl
theorem q1317 : (Jvm.Cond.instantiable "java/lang/NegativeArraySizeException" (6 : Nat)) ∈ lw_all := lw_g (lw_at lw_m5 221 rfl) rfl
theorem q1318 : (Jvm.Cond.instanceMethod ({ cls := "java/lang/NegativeArraySizeException", name := "<init>", desc := "(Ljava/lang/String;)V" } : Jvm.MethodName)) ∈ lw_all := lw_g (lw_at lw_m5 222 rfl) rfl
theorem q1319 : (Jvm.Cond.code ({ cls := "java/lang/NegativeArraySizeException", name := "<init>", desc := "(Ljava/lang/String;)V" } : Jvm.MethodName) prog_27_method_2_code (2 : Nat) (Option.none : Option Jvm.ClassFile.FieldType)) ∈ lw_all := lw_g (lw_at lw_m5 223 rfl) rfl
theorem q1320 : (Jvm.Cond.methodLink "java/lang/NegativeArraySizeException" (7 : Nat) ({ cls := "java/lang/RuntimeException", name := "<init>", desc := "(Ljava/lang/String;)V" } : Jvm.MethodName)) ∈ lw_all := lw_g (lw_at lw_m5 224 rfl) rfl
theorem q1338 : (Jvm.Cond.selects "java/lang/NegativeArraySizeException" ({ cls := "java/lang/Throwable", name := "fillInStackTrace", desc := "()Ljava/lang/Throwable;" } : Jvm.MethodName) ({ cls := "java/lang/Throwable", name := "fillInStackTrace", desc := "()Ljava/lang/Throwable;" } : Jvm.MethodName)) ∈ lw_all := lw_g (lw_at lw_m6 2 rfl) rfl
theorem q1364 : (Jvm.Cond.lays "java/lang/NegativeArraySizeException" "java/lang/Throwable" "backtrace" "Ljava/lang/Object;") ∈ lw_all := lw_g (lw_at lw_m6 28 rfl) rfl
theorem q1366 : (Jvm.Cond.lays "java/lang/NegativeArraySizeException" "java/lang/Throwable" "detailMessage" "Ljava/lang/String;") ∈ lw_all := lw_g (lw_at lw_m6 30 rfl) rfl
theorem q1368 : (Jvm.Cond.lays "java/lang/NegativeArraySizeException" "java/lang/Throwable" "cause" "Ljava/lang/Throwable;") ∈ lw_all := lw_g (lw_at lw_m6 32 rfl) rfl
theorem q1370 : (Jvm.Cond.lays "java/lang/NegativeArraySizeException" "java/lang/Throwable" "stackTrace" "[Ljava/lang/StackTraceElement;") ∈ lw_all := lw_g (lw_at lw_m6 34 rfl) rfl
theorem q1372 : (Jvm.Cond.lays "java/lang/NegativeArraySizeException" "java/lang/Throwable" "depth" "I") ∈ lw_all := lw_g (lw_at lw_m6 36 rfl) rfl
theorem q1374 : (Jvm.Cond.lays "java/lang/NegativeArraySizeException" "java/lang/Throwable" "suppressedExceptions" "Ljava/util/List;") ∈ lw_all := lw_g (lw_at lw_m6 38 rfl) rfl
theorem q1376 : (Jvm.Cond.superclass "java/lang/NegativeArraySizeException" "java/lang/RuntimeException") ∈ lw_all := lw_g (lw_at lw_m6 40 rfl) rfl
theorem q1377 : (Jvm.Cond.castable "java/lang/NegativeArraySizeException" "java/lang/NegativeArraySizeException") ∈ lw_tbl := lw_at lw_m6 41 rfl
theorem q1384 : (Jvm.Cond.selects "java/lang/NegativeArraySizeException" ({ cls := "java/lang/Throwable", name := "fillInStackTrace", desc := "(I)Ljava/lang/Throwable;" } : Jvm.MethodName) ({ cls := "java/lang/Throwable", name := "fillInStackTrace", desc := "(I)Ljava/lang/Throwable;" } : Jvm.MethodName)) ∈ lw_all := lw_g (lw_at lw_m6 48 rfl) rfl
theorem in_J10 : ∀ w ∈ wsJ100, w ∈ lw_all := lw_in wsJ100 [1364, 1366, 1368, 1370, 1372, 1374] (by decide +kernel) (by decide +kernel)
abbrev cJ11_init : ByteArray := prog_28_method_1_code
def RJ11 : String := "java/lang/NullPointerException"
def TJ11 : u_T := fun k => match k with
  | 0 => ("java/lang/Throwable", "backtrace", "Ljava/lang/Object;", false)
  | 1 => ("java/lang/Throwable", "detailMessage", "Ljava/lang/String;", false)
  | 2 => ("java/lang/Throwable", "cause", "Ljava/lang/Throwable;", false)
  | 3 => ("java/lang/Throwable", "stackTrace", "[Ljava/lang/StackTraceElement;", false)
  | 4 => ("java/lang/Throwable", "depth", "I", false)
  | 5 => ("java/lang/Throwable", "suppressedExceptions", "Ljava/util/List;", false)
  | 6 => ("java/lang/NullPointerException", "extendedMessageState", "I", false)
  | _ => ("java/lang/NullPointerException", "extendedMessage", "Ljava/lang/String;", false)
def tyJ11 : Nat → FieldType := fun k => match k with
  | 0 => .object "java/lang/Object"
  | 1 => .object "java/lang/String"
  | 2 => .object "java/lang/Throwable"
  | 3 => .array (.object "java/lang/StackTraceElement")
  | 4 => .int
  | 5 => .object "java/util/List"
  | 6 => .int
  | _ => .object "java/lang/String"
abbrev wsJ110 : List Cond := u_ws RJ11 TJ11 8
theorem nmJ11 : ∀ a, a < 8 → ∀ b, b < 8 → a ≠ b → (TJ11 a).2.1 ≠ (TJ11 b).2.1 := by decide +kernel
theorem tyJ11_ok : ∀ k, k < 8 → parseFieldDescriptor (TJ11 k).2.2.1 = some (tyJ11 k) := by decide +kernel
def yJ11_init : MethodName := ⟨RJ11, "<init>", "()V"⟩
theorem q168 : (Jvm.Cond.initialized "java/lang/NullPointerException") ∈ lw_all := lw_g (lw_at lw_m1 32 rfl) rfl
theorem q1339 : (Jvm.Cond.selects "java/lang/NullPointerException" ({ cls := "java/lang/Throwable", name := "fillInStackTrace", desc := "()Ljava/lang/Throwable;" } : Jvm.MethodName) ({ cls := "java/lang/NullPointerException", name := "fillInStackTrace", desc := "()Ljava/lang/Throwable;" } : Jvm.MethodName)) ∈ lw_all := lw_g (lw_at lw_m6 3 rfl) rfl
theorem q1340 : (Jvm.Cond.instanceMethod ({ cls := "java/lang/NullPointerException", name := "fillInStackTrace", desc := "()Ljava/lang/Throwable;" } : Jvm.MethodName)) ∈ lw_all := lw_g (lw_at lw_m6 4 rfl) rfl
theorem q1341 : (Jvm.Cond.codeSync ({ cls := "java/lang/NullPointerException", name := "fillInStackTrace", desc := "()Ljava/lang/Throwable;" } : Jvm.MethodName) prog_28_method_3_code (1 : Nat) (Option.some (Jvm.ClassFile.FieldType.object "java/lang/Throwable"))) ∈ lw_all := lw_g (lw_at lw_m6 5 rfl) rfl
theorem q1342 : (Jvm.Cond.methodLink "java/lang/NullPointerException" (16 : Nat) ({ cls := "java/lang/NullPointerException", name := "getExtendedNPEMessage", desc := "()Ljava/lang/String;" } : Jvm.MethodName)) ∈ lw_all := lw_g (lw_at lw_m6 6 rfl) rfl
theorem q1343 : (Jvm.Cond.privateMethod ({ cls := "java/lang/NullPointerException", name := "getExtendedNPEMessage", desc := "()Ljava/lang/String;" } : Jvm.MethodName)) ∈ lw_tbl := lw_at lw_m6 7 rfl
theorem q1344 : (Jvm.Cond.instanceMethod ({ cls := "java/lang/NullPointerException", name := "getExtendedNPEMessage", desc := "()Ljava/lang/String;" } : Jvm.MethodName)) ∈ lw_all := lw_g (lw_at lw_m6 8 rfl) rfl
theorem q1345 : (Jvm.Cond.instantiable "java/lang/NullPointerException" (8 : Nat)) ∈ lw_all := lw_g (lw_at lw_m6 9 rfl) rfl
theorem q1346 : (Jvm.Cond.native ({ cls := "java/lang/NullPointerException", name := "getExtendedNPEMessage", desc := "()Ljava/lang/String;" } : Jvm.MethodName)) ∈ lw_all := lw_g (lw_at lw_m6 10 rfl) rfl
theorem q1347 : (Jvm.Cond.methodLink "java/lang/NullPointerException" (24 : Nat) ({ cls := "java/lang/RuntimeException", name := "fillInStackTrace", desc := "()Ljava/lang/Throwable;" } : Jvm.MethodName)) ∈ lw_all := lw_g (lw_at lw_m6 11 rfl) rfl
theorem q1350 : (Jvm.Cond.superclass "java/lang/NullPointerException" "java/lang/RuntimeException") ∈ lw_all := lw_g (lw_at lw_m6 14 rfl) rfl
theorem q1405 : (Jvm.Cond.instanceMethod ({ cls := "java/lang/NullPointerException", name := "<init>", desc := "()V" } : Jvm.MethodName)) ∈ lw_all := lw_g (lw_at lw_m6 69 rfl) rfl
theorem q1406 : (Jvm.Cond.code ({ cls := "java/lang/NullPointerException", name := "<init>", desc := "()V" } : Jvm.MethodName) prog_28_method_1_code (1 : Nat) (Option.none : Option Jvm.ClassFile.FieldType)) ∈ lw_all := lw_g (lw_at lw_m6 70 rfl) rfl
theorem q1407 : (Jvm.Cond.methodLink "java/lang/NullPointerException" (1 : Nat) ({ cls := "java/lang/RuntimeException", name := "<init>", desc := "()V" } : Jvm.MethodName)) ∈ lw_all := lw_g (lw_at lw_m6 71 rfl) rfl
theorem q1414 : (Jvm.Cond.fieldLink "java/lang/NullPointerException" (10 : Nat) "java/lang/NullPointerException" "extendedMessageState" "I") ∈ lw_all := lw_g (lw_at lw_m6 78 rfl) rfl
theorem q1415 : (Jvm.Cond.fieldLink "java/lang/NullPointerException" (20 : Nat) "java/lang/NullPointerException" "extendedMessage" "Ljava/lang/String;") ∈ lw_all := lw_g (lw_at lw_m6 79 rfl) rfl
theorem q1416 : (Jvm.Cond.lays "java/lang/NullPointerException" "java/lang/NullPointerException" "extendedMessageState" "I") ∈ lw_all := lw_g (lw_at lw_m6 80 rfl) rfl
theorem q1417 : (Jvm.Cond.soleField "java/lang/NullPointerException" "extendedMessageState") ∈ lw_all := lw_g (lw_at lw_m6 81 rfl) rfl
theorem q1418 : (Jvm.Cond.lays "java/lang/NullPointerException" "java/lang/NullPointerException" "extendedMessage" "Ljava/lang/String;") ∈ lw_all := lw_g (lw_at lw_m6 82 rfl) rfl
theorem q1419 : (Jvm.Cond.soleField "java/lang/NullPointerException" "extendedMessage") ∈ lw_all := lw_g (lw_at lw_m6 83 rfl) rfl
theorem q1420 : (Jvm.Cond.lays "java/lang/NullPointerException" "java/lang/Throwable" "backtrace" "Ljava/lang/Object;") ∈ lw_all := lw_g (lw_at lw_m6 84 rfl) rfl
theorem q1421 : (Jvm.Cond.lays "java/lang/NullPointerException" "java/lang/Throwable" "detailMessage" "Ljava/lang/String;") ∈ lw_all := lw_g (lw_at lw_m6 85 rfl) rfl
theorem q1422 : (Jvm.Cond.lays "java/lang/NullPointerException" "java/lang/Throwable" "cause" "Ljava/lang/Throwable;") ∈ lw_all := lw_g (lw_at lw_m6 86 rfl) rfl
theorem q1423 : (Jvm.Cond.lays "java/lang/NullPointerException" "java/lang/Throwable" "stackTrace" "[Ljava/lang/StackTraceElement;") ∈ lw_all := lw_g (lw_at lw_m6 87 rfl) rfl
theorem q1424 : (Jvm.Cond.lays "java/lang/NullPointerException" "java/lang/Throwable" "depth" "I") ∈ lw_all := lw_g (lw_at lw_m6 88 rfl) rfl
theorem q1425 : (Jvm.Cond.lays "java/lang/NullPointerException" "java/lang/Throwable" "suppressedExceptions" "Ljava/util/List;") ∈ lw_all := lw_g (lw_at lw_m6 89 rfl) rfl
theorem q1426 : (Jvm.Cond.castable "java/lang/NullPointerException" "java/lang/NullPointerException") ∈ lw_tbl := lw_at lw_m6 90 rfl
theorem q1427 : (Jvm.Cond.selects "java/lang/NullPointerException" ({ cls := "java/lang/Throwable", name := "fillInStackTrace", desc := "(I)Ljava/lang/Throwable;" } : Jvm.MethodName) ({ cls := "java/lang/Throwable", name := "fillInStackTrace", desc := "(I)Ljava/lang/Throwable;" } : Jvm.MethodName)) ∈ lw_all := lw_g (lw_at lw_m6 91 rfl) rfl
theorem in_J11 : ∀ w ∈ wsJ110, w ∈ lw_all := lw_in wsJ110 [1420, 1421, 1422, 1423, 1424, 1425, 1416, 1418] (by decide +kernel) (by decide +kernel)
abbrev cJ12_init : ByteArray := prog_24_method_2_code
def RJ12 : String := "java/lang/IndexOutOfBoundsException"
def yJ12_init : MethodName := ⟨RJ12, "<init>", "(Ljava/lang/String;)V"⟩
theorem q169 : (Jvm.Cond.initialized "java/lang/IndexOutOfBoundsException") ∈ lw_all := lw_g (lw_at lw_m1 33 rfl) rfl
theorem q1434 : (Jvm.Cond.instanceMethod ({ cls := "java/lang/IndexOutOfBoundsException", name := "<init>", desc := "(Ljava/lang/String;)V" } : Jvm.MethodName)) ∈ lw_all := lw_g (lw_at lw_m6 98 rfl) rfl
theorem q1435 : (Jvm.Cond.code ({ cls := "java/lang/IndexOutOfBoundsException", name := "<init>", desc := "(Ljava/lang/String;)V" } : Jvm.MethodName) prog_24_method_2_code (2 : Nat) (Option.none : Option Jvm.ClassFile.FieldType)) ∈ lw_all := lw_g (lw_at lw_m6 99 rfl) rfl
theorem q1436 : (Jvm.Cond.methodLink "java/lang/IndexOutOfBoundsException" (7 : Nat) ({ cls := "java/lang/RuntimeException", name := "<init>", desc := "(Ljava/lang/String;)V" } : Jvm.MethodName)) ∈ lw_all := lw_g (lw_at lw_m6 100 rfl) rfl
theorem q1445 : (Jvm.Cond.declares ({ cls := "java/lang/IndexOutOfBoundsException", name := "<init>", desc := "()V" } : Jvm.MethodName)) ∈ lw_tbl := lw_at lw_m6 109 rfl
theorem q1446 : (Jvm.Cond.declares ({ cls := "java/lang/IndexOutOfBoundsException", name := "<init>", desc := "(Ljava/lang/String;)V" } : Jvm.MethodName)) ∈ lw_tbl := lw_at lw_m6 110 rfl
abbrev cJ13_init : ByteArray := prog_21_method_2_code
def RJ13 : String := "java/lang/ArrayIndexOutOfBoundsException"
def TJ13 : u_T := fun k => match k with
  | 0 => ("java/lang/Throwable", "backtrace", "Ljava/lang/Object;", false)
  | 1 => ("java/lang/Throwable", "detailMessage", "Ljava/lang/String;", false)
  | 2 => ("java/lang/Throwable", "cause", "Ljava/lang/Throwable;", false)
  | 3 => ("java/lang/Throwable", "stackTrace", "[Ljava/lang/StackTraceElement;", false)
  | 4 => ("java/lang/Throwable", "depth", "I", false)
  | _ => ("java/lang/Throwable", "suppressedExceptions", "Ljava/util/List;", false)
def tyJ13 : Nat → FieldType := fun k => match k with
  | 0 => .object "java/lang/Object"
  | 1 => .object "java/lang/String"
  | 2 => .object "java/lang/Throwable"
  | 3 => .array (.object "java/lang/StackTraceElement")
  | 4 => .int
  | _ => .object "java/util/List"
abbrev wsJ130 : List Cond := u_ws RJ13 TJ13 6
theorem nmJ13 : ∀ a, a < 6 → ∀ b, b < 6 → a ≠ b → (TJ13 a).2.1 ≠ (TJ13 b).2.1 := by decide +kernel
theorem tyJ13_ok : ∀ k, k < 6 → parseFieldDescriptor (TJ13 k).2.2.1 = some (tyJ13 k) := by decide +kernel
def yJ13_init : MethodName := ⟨RJ13, "<init>", "(Ljava/lang/String;)V"⟩
theorem q170 : (Jvm.Cond.initialized "java/lang/ArrayIndexOutOfBoundsException") ∈ lw_all := lw_g (lw_at lw_m1 34 rfl) rfl
theorem q1337 : (Jvm.Cond.selects "java/lang/ArrayIndexOutOfBoundsException" ({ cls := "java/lang/Throwable", name := "fillInStackTrace", desc := "()Ljava/lang/Throwable;" } : Jvm.MethodName) ({ cls := "java/lang/Throwable", name := "fillInStackTrace", desc := "()Ljava/lang/Throwable;" } : Jvm.MethodName)) ∈ lw_all := lw_g (lw_at lw_m6 1 rfl) rfl
theorem q1430 : (Jvm.Cond.instantiable "java/lang/ArrayIndexOutOfBoundsException" (6 : Nat)) ∈ lw_all := lw_g (lw_at lw_m6 94 rfl) rfl
theorem q1431 : (Jvm.Cond.instanceMethod ({ cls := "java/lang/ArrayIndexOutOfBoundsException", name := "<init>", desc := "(Ljava/lang/String;)V" } : Jvm.MethodName)) ∈ lw_all := lw_g (lw_at lw_m6 95 rfl) rfl
theorem q1432 : (Jvm.Cond.code ({ cls := "java/lang/ArrayIndexOutOfBoundsException", name := "<init>", desc := "(Ljava/lang/String;)V" } : Jvm.MethodName) prog_21_method_2_code (2 : Nat) (Option.none : Option Jvm.ClassFile.FieldType)) ∈ lw_all := lw_g (lw_at lw_m6 96 rfl) rfl
theorem q1433 : (Jvm.Cond.methodLink "java/lang/ArrayIndexOutOfBoundsException" (7 : Nat) ({ cls := "java/lang/IndexOutOfBoundsException", name := "<init>", desc := "(Ljava/lang/String;)V" } : Jvm.MethodName)) ∈ lw_all := lw_g (lw_at lw_m6 97 rfl) rfl
theorem q1437 : (Jvm.Cond.lays "java/lang/ArrayIndexOutOfBoundsException" "java/lang/Throwable" "backtrace" "Ljava/lang/Object;") ∈ lw_all := lw_g (lw_at lw_m6 101 rfl) rfl
theorem q1438 : (Jvm.Cond.lays "java/lang/ArrayIndexOutOfBoundsException" "java/lang/Throwable" "detailMessage" "Ljava/lang/String;") ∈ lw_all := lw_g (lw_at lw_m6 102 rfl) rfl
theorem q1439 : (Jvm.Cond.lays "java/lang/ArrayIndexOutOfBoundsException" "java/lang/Throwable" "cause" "Ljava/lang/Throwable;") ∈ lw_all := lw_g (lw_at lw_m6 103 rfl) rfl
theorem q1440 : (Jvm.Cond.lays "java/lang/ArrayIndexOutOfBoundsException" "java/lang/Throwable" "stackTrace" "[Ljava/lang/StackTraceElement;") ∈ lw_all := lw_g (lw_at lw_m6 104 rfl) rfl
theorem q1441 : (Jvm.Cond.lays "java/lang/ArrayIndexOutOfBoundsException" "java/lang/Throwable" "depth" "I") ∈ lw_all := lw_g (lw_at lw_m6 105 rfl) rfl
theorem q1442 : (Jvm.Cond.lays "java/lang/ArrayIndexOutOfBoundsException" "java/lang/Throwable" "suppressedExceptions" "Ljava/util/List;") ∈ lw_all := lw_g (lw_at lw_m6 106 rfl) rfl
theorem q1443 : (Jvm.Cond.superclass "java/lang/ArrayIndexOutOfBoundsException" "java/lang/IndexOutOfBoundsException") ∈ lw_all := lw_g (lw_at lw_m6 107 rfl) rfl
theorem q1444 : (Jvm.Cond.castable "java/lang/ArrayIndexOutOfBoundsException" "java/lang/ArrayIndexOutOfBoundsException") ∈ lw_tbl := lw_at lw_m6 108 rfl
theorem q1447 : (Jvm.Cond.selects "java/lang/ArrayIndexOutOfBoundsException" ({ cls := "java/lang/Throwable", name := "fillInStackTrace", desc := "(I)Ljava/lang/Throwable;" } : Jvm.MethodName) ({ cls := "java/lang/Throwable", name := "fillInStackTrace", desc := "(I)Ljava/lang/Throwable;" } : Jvm.MethodName)) ∈ lw_all := lw_g (lw_at lw_m6 111 rfl) rfl
theorem in_J13 : ∀ w ∈ wsJ130, w ∈ lw_all := lw_in wsJ130 [1437, 1438, 1439, 1440, 1441, 1442] (by decide +kernel) (by decide +kernel)
abbrev cJ14_init : ByteArray := object_method_1_code
def RJ14 : String := "java/lang/Object"
def yJ14_init : MethodName := ⟨RJ14, "<init>", "()V"⟩
theorem q177 : (Jvm.Cond.instanceMethod ({ cls := "java/lang/Object", name := "<init>", desc := "()V" } : Jvm.MethodName)) ∈ lw_all := lw_g (lw_at lw_m1 41 rfl) rfl
theorem q178 : (Jvm.Cond.code ({ cls := "java/lang/Object", name := "<init>", desc := "()V" } : Jvm.MethodName) object_method_1_code (1 : Nat) (Option.none : Option Jvm.ClassFile.FieldType)) ∈ lw_all := lw_g (lw_at lw_m1 42 rfl) rfl
abbrev cL_law : ByteArray := code
theorem q136 : (Jvm.Cond.initialized "MovedSpanLaw") ∈ lw_all := lw_g (lw_at lw_m1 0 rfl) rfl
theorem q171 : (Jvm.Cond.classLink "MovedSpanLaw" (7 : Nat) "MovedSpan") ∈ lw_all := lw_g (lw_at lw_m1 35 rfl) rfl
theorem q173 : (Jvm.Cond.methodLink "MovedSpanLaw" (9 : Nat) ({ cls := "MovedSpan", name := "<init>", desc := "()V" } : Jvm.MethodName)) ∈ lw_all := lw_g (lw_at lw_m1 37 rfl) rfl
theorem q462 : (Jvm.Cond.methodLink "MovedSpanLaw" (13 : Nat) ({ cls := "MovedSpan", name := "feed", desc := "(IIIII)I" } : Jvm.MethodName)) ∈ lw_all := lw_g (lw_at lw_m2 86 rfl) rfl
theorem q470 : (Jvm.Cond.methodLink "MovedSpanLaw" (18 : Nat) ({ cls := "MovedSpan", name := "river", desc := "(I)I" } : Jvm.MethodName)) ∈ lw_all := lw_g (lw_at lw_m2 94 rfl) rfl
theorem q857 : (Jvm.Cond.methodLink "MovedSpanLaw" (23 : Nat) ({ cls := "MovedSpan", name := "fault", desc := "(I)I" } : Jvm.MethodName)) ∈ lw_all := lw_g (lw_at lw_m4 1 rfl) rfl
theorem q861 : (Jvm.Cond.methodLink "MovedSpanLaw" (27 : Nat) ({ cls := "MovedSpan", name := "span", desc := "(I)I" } : Jvm.MethodName)) ∈ lw_all := lw_g (lw_at lw_m4 5 rfl) rfl
theorem q870 : (Jvm.Cond.methodLink "MovedSpanLaw" (31 : Nat) ({ cls := "MovedSpan", name := "person", desc := "(II)I" } : Jvm.MethodName)) ∈ lw_all := lw_g (lw_at lw_m4 14 rfl) rfl
theorem q881 : (Jvm.Cond.methodLink "MovedSpanLaw" (36 : Nat) ({ cls := "MovedSpan", name := "why", desc := "(II)I" } : Jvm.MethodName)) ∈ lw_all := lw_g (lw_at lw_m4 25 rfl) rfl
theorem q986 : (Jvm.Cond.methodLink "MovedSpanLaw" (40 : Nat) ({ cls := "MovedSpan", name := "act", desc := "(II)I" } : Jvm.MethodName)) ∈ lw_all := lw_g (lw_at lw_m4 130 rfl) rfl
theorem q1000 : (Jvm.Cond.methodLink "MovedSpanLaw" (44 : Nat) ({ cls := "MovedSpan", name := "tell", desc := "(II)I" } : Jvm.MethodName)) ∈ lw_all := lw_g (lw_at lw_m4 144 rfl) rfl
theorem q1005 : (Jvm.Cond.methodLink "MovedSpanLaw" (48 : Nat) ({ cls := "MovedSpan", name := "fog", desc := "(I)I" } : Jvm.MethodName)) ∈ lw_all := lw_g (lw_at lw_m4 149 rfl) rfl
theorem q1010 : (Jvm.Cond.methodLink "MovedSpanLaw" (52 : Nat) ({ cls := "MovedSpan", name := "hours", desc := "(I)I" } : Jvm.MethodName)) ∈ lw_all := lw_g (lw_at lw_m4 154 rfl) rfl
theorem q1027 : (Jvm.Cond.methodLink "MovedSpanLaw" (56 : Nat) ({ cls := "MovedSpan", name := "undo", desc := "(I)I" } : Jvm.MethodName)) ∈ lw_all := lw_g (lw_at lw_m4 171 rfl) rfl
theorem q1031 : (Jvm.Cond.methodLink "MovedSpanLaw" (60 : Nat) ({ cls := "MovedSpan", name := "judge", desc := "(II)I" } : Jvm.MethodName)) ∈ lw_all := lw_g (lw_at lw_m4 175 rfl) rfl
theorem q1076 : (Jvm.Cond.methodLink "MovedSpanLaw" (64 : Nat) ({ cls := "MovedSpan", name := "perform", desc := "(I)I" } : Jvm.MethodName)) ∈ lw_all := lw_g (lw_at lw_m4 220 rfl) rfl
theorem q1080 : (Jvm.Cond.methodLink "MovedSpanLaw" (68 : Nat) ({ cls := "MovedSpan", name := "year", desc := "(II)I" } : Jvm.MethodName)) ∈ lw_all := lw_g (lw_at lw_m4 224 rfl) rfl
theorem q1094 : (Jvm.Cond.methodLink "MovedSpanLaw" (72 : Nat) ({ cls := "MovedSpan", name := "soonest", desc := "(II)I" } : Jvm.MethodName)) ∈ lw_all := lw_g (lw_at lw_m4 238 rfl) rfl
theorem q1141 : (Jvm.Cond.methodLink "MovedSpanLaw" (76 : Nat) ({ cls := "MovedSpan", name := "way", desc := "(III)I" } : Jvm.MethodName)) ∈ lw_all := lw_g (lw_at lw_m5 45 rfl) rfl
theorem q1153 : (Jvm.Cond.methodLink "MovedSpanLaw" (81 : Nat) ({ cls := "MovedSpan", name := "ways", desc := "(III)J" } : Jvm.MethodName)) ∈ lw_all := lw_g (lw_at lw_m5 57 rfl) rfl
theorem q1164 : (Jvm.Cond.methodLink "MovedSpanLaw" (86 : Nat) ({ cls := "MovedSpan", name := "reach", desc := "(II)I" } : Jvm.MethodName)) ∈ lw_all := lw_g (lw_at lw_m5 68 rfl) rfl
theorem q1173 : (Jvm.Cond.methodLink "MovedSpanLaw" (90 : Nat) ({ cls := "MovedSpan", name := "meet", desc := "(II)I" } : Jvm.MethodName)) ∈ lw_all := lw_g (lw_at lw_m5 77 rfl) rfl
theorem q1185 : (Jvm.Cond.methodLink "MovedSpanLaw" (94 : Nat) ({ cls := "MovedSpan", name := "meetAt", desc := "(II)I" } : Jvm.MethodName)) ∈ lw_all := lw_g (lw_at lw_m5 89 rfl) rfl
theorem q1193 : (Jvm.Cond.methodLink "MovedSpanLaw" (98 : Nat) ({ cls := "MovedSpan", name := "inTime", desc := "()I" } : Jvm.MethodName)) ∈ lw_all := lw_g (lw_at lw_m5 97 rfl) rfl
theorem q1205 : (Jvm.Cond.methodLink "MovedSpanLaw" (103 : Nat) ({ cls := "MovedSpan", name := "spare", desc := "(I)I" } : Jvm.MethodName)) ∈ lw_all := lw_g (lw_at lw_m5 109 rfl) rfl
theorem q1209 : (Jvm.Cond.methodLink "MovedSpanLaw" (107 : Nat) ({ cls := "MovedSpan", name := "needs", desc := "(I)I" } : Jvm.MethodName)) ∈ lw_all := lw_g (lw_at lw_m5 113 rfl) rfl
theorem q1213 : (Jvm.Cond.methodLink "MovedSpanLaw" (111 : Nat) ({ cls := "MovedSpan", name := "moves", desc := "()I" } : Jvm.MethodName)) ∈ lw_all := lw_g (lw_at lw_m5 117 rfl) rfl
theorem q1221 : (Jvm.Cond.methodLink "MovedSpanLaw" (115 : Nat) ({ cls := "MovedSpan", name := "best", desc := "(I)I" } : Jvm.MethodName)) ∈ lw_all := lw_g (lw_at lw_m5 125 rfl) rfl
theorem q1243 : (Jvm.Cond.methodLink "MovedSpanLaw" (123 : Nat) ({ cls := "MovedSpan", name := "weeks", desc := "()I" } : Jvm.MethodName)) ∈ lw_all := lw_g (lw_at lw_m5 147 rfl) rfl
theorem q1247 : (Jvm.Cond.methodLink "MovedSpanLaw" (119 : Nat) ({ cls := "MovedSpan", name := "change", desc := "()I" } : Jvm.MethodName)) ∈ lw_all := lw_g (lw_at lw_m5 151 rfl) rfl
theorem q1251 : (Jvm.Cond.methodLink "MovedSpanLaw" (127 : Nat) ({ cls := "MovedSpan", name := "shift", desc := "()I" } : Jvm.MethodName)) ∈ lw_all := lw_g (lw_at lw_m5 155 rfl) rfl
theorem q1255 : (Jvm.Cond.methodLink "MovedSpanLaw" (131 : Nat) ({ cls := "MovedSpan", name := "fits", desc := "(III)I" } : Jvm.MethodName)) ∈ lw_all := lw_g (lw_at lw_m5 159 rfl) rfl
theorem q1275 : (Jvm.Cond.methodLink "MovedSpanLaw" (135 : Nat) ({ cls := "MovedSpan", name := "surest", desc := "(II)I" } : Jvm.MethodName)) ∈ lw_all := lw_g (lw_at lw_m5 179 rfl) rfl
theorem q1279 : (Jvm.Cond.methodLink "MovedSpanLaw" (139 : Nat) ({ cls := "MovedSpan", name := "odd", desc := "(II)I" } : Jvm.MethodName)) ∈ lw_all := lw_g (lw_at lw_m5 183 rfl) rfl
theorem q1283 : (Jvm.Cond.methodLink "MovedSpanLaw" (143 : Nat) ({ cls := "MovedSpan", name := "chance", desc := "(IIII)J" } : Jvm.MethodName)) ∈ lw_all := lw_g (lw_at lw_m5 187 rfl) rfl
theorem q1303 : (Jvm.Cond.methodLink "MovedSpanLaw" (148 : Nat) ({ cls := "MovedSpan", name := "likely", desc := "(III)I" } : Jvm.MethodName)) ∈ lw_all := lw_g (lw_at lw_m5 207 rfl) rfl
theorem q1308 : (Jvm.Cond.methodLink "MovedSpanLaw" (152 : Nat) ({ cls := "MovedSpan", name := "numbers", desc := "(III)I" } : Jvm.MethodName)) ∈ lw_all := lw_g (lw_at lw_m5 212 rfl) rfl
theorem q1400 : (Jvm.Cond.methodLink "MovedSpanLaw" (158 : Nat) ({ cls := "MovedSpan", name := "write", desc := "(IIJ)J" } : Jvm.MethodName)) ∈ lw_all := lw_g (lw_at lw_m6 64 rfl) rfl
theorem q1454 : (Jvm.Cond.methodLink "MovedSpanLaw" (163 : Nat) ({ cls := "MovedSpan", name := "lists", desc := "(III)I" } : Jvm.MethodName)) ∈ lw_all := lw_g (lw_at lw_m6 118 rfl) rfl
theorem q1458 : (Jvm.Cond.methodLink "MovedSpanLaw" (167 : Nat) ({ cls := "MovedSpan", name := "image", desc := "(I)I" } : Jvm.MethodName)) ∈ lw_all := lw_g (lw_at lw_m6 122 rfl) rfl
theorem q1462 : (Jvm.Cond.methodLink "MovedSpanLaw" (171 : Nat) ({ cls := "MovedSpan", name := "restore", desc := "(I)I" } : Jvm.MethodName)) ∈ lw_all := lw_g (lw_at lw_m6 126 rfl) rfl
theorem q1466 : (Jvm.Cond.methodLink "MovedSpanLaw" (175 : Nat) ({ cls := "MovedSpan", name := "count", desc := "(I)I" } : Jvm.MethodName)) ∈ lw_all := lw_g (lw_at lw_m6 130 rfl) rfl
theorem q1474 : (Jvm.Cond.classLink "MovedSpanLaw" (10 : Nat) "MovedSpanModel") ∈ lw_all := lw_g (lw_at lw_m6 138 rfl) rfl
theorem q1476 : (Jvm.Cond.methodLink "MovedSpanLaw" (12 : Nat) ({ cls := "MovedSpanModel", name := "<init>", desc := "()V" } : Jvm.MethodName)) ∈ lw_all := lw_g (lw_at lw_m6 140 rfl) rfl
theorem q1608 : (Jvm.Cond.methodLink "MovedSpanLaw" (17 : Nat) ({ cls := "MovedSpanModel", name := "feed", desc := "(IIIII)I" } : Jvm.MethodName)) ∈ lw_all := lw_g (lw_at lw_m7 32 rfl) rfl
theorem q1612 : (Jvm.Cond.methodLink "MovedSpanLaw" (22 : Nat) ({ cls := "MovedSpanModel", name := "river", desc := "(I)I" } : Jvm.MethodName)) ∈ lw_all := lw_g (lw_at lw_m7 36 rfl) rfl
theorem q1728 : (Jvm.Cond.methodLink "MovedSpanLaw" (26 : Nat) ({ cls := "MovedSpanModel", name := "fault", desc := "(I)I" } : Jvm.MethodName)) ∈ lw_all := lw_g (lw_at lw_m7 152 rfl) rfl
theorem q1732 : (Jvm.Cond.methodLink "MovedSpanLaw" (30 : Nat) ({ cls := "MovedSpanModel", name := "span", desc := "(I)I" } : Jvm.MethodName)) ∈ lw_all := lw_g (lw_at lw_m7 156 rfl) rfl
theorem q1741 : (Jvm.Cond.methodLink "MovedSpanLaw" (35 : Nat) ({ cls := "MovedSpanModel", name := "person", desc := "(II)I" } : Jvm.MethodName)) ∈ lw_all := lw_g (lw_at lw_m7 165 rfl) rfl
theorem q1749 : (Jvm.Cond.methodLink "MovedSpanLaw" (39 : Nat) ({ cls := "MovedSpanModel", name := "why", desc := "(II)I" } : Jvm.MethodName)) ∈ lw_all := lw_g (lw_at lw_m7 173 rfl) rfl
theorem q1779 : (Jvm.Cond.methodLink "MovedSpanLaw" (43 : Nat) ({ cls := "MovedSpanModel", name := "act", desc := "(II)I" } : Jvm.MethodName)) ∈ lw_all := lw_g (lw_at lw_m7 203 rfl) rfl
theorem q1791 : (Jvm.Cond.methodLink "MovedSpanLaw" (47 : Nat) ({ cls := "MovedSpanModel", name := "tell", desc := "(II)I" } : Jvm.MethodName)) ∈ lw_all := lw_g (lw_at lw_m7 215 rfl) rfl
theorem q1796 : (Jvm.Cond.methodLink "MovedSpanLaw" (51 : Nat) ({ cls := "MovedSpanModel", name := "fog", desc := "(I)I" } : Jvm.MethodName)) ∈ lw_all := lw_g (lw_at lw_m7 220 rfl) rfl
theorem q1801 : (Jvm.Cond.methodLink "MovedSpanLaw" (55 : Nat) ({ cls := "MovedSpanModel", name := "hours", desc := "(I)I" } : Jvm.MethodName)) ∈ lw_all := lw_g (lw_at lw_m7 225 rfl) rfl
theorem q1810 : (Jvm.Cond.methodLink "MovedSpanLaw" (59 : Nat) ({ cls := "MovedSpanModel", name := "undo", desc := "(I)I" } : Jvm.MethodName)) ∈ lw_all := lw_g (lw_at lw_m7 234 rfl) rfl
theorem q1815 : (Jvm.Cond.methodLink "MovedSpanLaw" (63 : Nat) ({ cls := "MovedSpanModel", name := "judge", desc := "(II)I" } : Jvm.MethodName)) ∈ lw_all := lw_g (lw_at lw_m7 239 rfl) rfl
theorem q1846 : (Jvm.Cond.methodLink "MovedSpanLaw" (67 : Nat) ({ cls := "MovedSpanModel", name := "perform", desc := "(I)I" } : Jvm.MethodName)) ∈ lw_all := lw_g (lw_at lw_m8 30 rfl) rfl
theorem q1850 : (Jvm.Cond.methodLink "MovedSpanLaw" (71 : Nat) ({ cls := "MovedSpanModel", name := "year", desc := "(II)I" } : Jvm.MethodName)) ∈ lw_all := lw_g (lw_at lw_m8 34 rfl) rfl
theorem q1864 : (Jvm.Cond.methodLink "MovedSpanLaw" (75 : Nat) ({ cls := "MovedSpanModel", name := "soonest", desc := "(II)I" } : Jvm.MethodName)) ∈ lw_all := lw_g (lw_at lw_m8 48 rfl) rfl
theorem q1889 : (Jvm.Cond.methodLink "MovedSpanLaw" (80 : Nat) ({ cls := "MovedSpanModel", name := "way", desc := "(III)I" } : Jvm.MethodName)) ∈ lw_all := lw_g (lw_at lw_m8 73 rfl) rfl
theorem q1897 : (Jvm.Cond.methodLink "MovedSpanLaw" (85 : Nat) ({ cls := "MovedSpanModel", name := "ways", desc := "(III)J" } : Jvm.MethodName)) ∈ lw_all := lw_g (lw_at lw_m8 81 rfl) rfl
theorem q1904 : (Jvm.Cond.methodLink "MovedSpanLaw" (89 : Nat) ({ cls := "MovedSpanModel", name := "reach", desc := "(II)I" } : Jvm.MethodName)) ∈ lw_all := lw_g (lw_at lw_m8 88 rfl) rfl
theorem q1913 : (Jvm.Cond.methodLink "MovedSpanLaw" (93 : Nat) ({ cls := "MovedSpanModel", name := "meet", desc := "(II)I" } : Jvm.MethodName)) ∈ lw_all := lw_g (lw_at lw_m8 97 rfl) rfl
theorem q1921 : (Jvm.Cond.methodLink "MovedSpanLaw" (97 : Nat) ({ cls := "MovedSpanModel", name := "meetAt", desc := "(II)I" } : Jvm.MethodName)) ∈ lw_all := lw_g (lw_at lw_m8 105 rfl) rfl
theorem q1925 : (Jvm.Cond.methodLink "MovedSpanLaw" (102 : Nat) ({ cls := "MovedSpanModel", name := "inTime", desc := "()I" } : Jvm.MethodName)) ∈ lw_all := lw_g (lw_at lw_m8 109 rfl) rfl
theorem q1941 : (Jvm.Cond.methodLink "MovedSpanLaw" (106 : Nat) ({ cls := "MovedSpanModel", name := "spare", desc := "(I)I" } : Jvm.MethodName)) ∈ lw_all := lw_g (lw_at lw_m8 125 rfl) rfl
theorem q1945 : (Jvm.Cond.methodLink "MovedSpanLaw" (110 : Nat) ({ cls := "MovedSpanModel", name := "needs", desc := "(I)I" } : Jvm.MethodName)) ∈ lw_all := lw_g (lw_at lw_m8 129 rfl) rfl
theorem q1949 : (Jvm.Cond.methodLink "MovedSpanLaw" (114 : Nat) ({ cls := "MovedSpanModel", name := "moves", desc := "()I" } : Jvm.MethodName)) ∈ lw_all := lw_g (lw_at lw_m8 133 rfl) rfl
theorem q1957 : (Jvm.Cond.methodLink "MovedSpanLaw" (118 : Nat) ({ cls := "MovedSpanModel", name := "best", desc := "(I)I" } : Jvm.MethodName)) ∈ lw_all := lw_g (lw_at lw_m8 141 rfl) rfl
theorem q1989 : (Jvm.Cond.methodLink "MovedSpanLaw" (126 : Nat) ({ cls := "MovedSpanModel", name := "weeks", desc := "()I" } : Jvm.MethodName)) ∈ lw_all := lw_g (lw_at lw_m8 173 rfl) rfl
theorem q1993 : (Jvm.Cond.methodLink "MovedSpanLaw" (122 : Nat) ({ cls := "MovedSpanModel", name := "change", desc := "()I" } : Jvm.MethodName)) ∈ lw_all := lw_g (lw_at lw_m8 177 rfl) rfl
theorem q1997 : (Jvm.Cond.methodLink "MovedSpanLaw" (130 : Nat) ({ cls := "MovedSpanModel", name := "shift", desc := "()I" } : Jvm.MethodName)) ∈ lw_all := lw_g (lw_at lw_m8 181 rfl) rfl
theorem q2001 : (Jvm.Cond.methodLink "MovedSpanLaw" (134 : Nat) ({ cls := "MovedSpanModel", name := "fits", desc := "(III)I" } : Jvm.MethodName)) ∈ lw_all := lw_g (lw_at lw_m8 185 rfl) rfl
theorem q2017 : (Jvm.Cond.methodLink "MovedSpanLaw" (138 : Nat) ({ cls := "MovedSpanModel", name := "surest", desc := "(II)I" } : Jvm.MethodName)) ∈ lw_all := lw_g (lw_at lw_m8 201 rfl) rfl
theorem q2024 : (Jvm.Cond.methodLink "MovedSpanLaw" (142 : Nat) ({ cls := "MovedSpanModel", name := "odd", desc := "(II)I" } : Jvm.MethodName)) ∈ lw_all := lw_g (lw_at lw_m8 208 rfl) rfl
theorem q2028 : (Jvm.Cond.methodLink "MovedSpanLaw" (147 : Nat) ({ cls := "MovedSpanModel", name := "chance", desc := "(IIII)J" } : Jvm.MethodName)) ∈ lw_all := lw_g (lw_at lw_m8 212 rfl) rfl
theorem q2046 : (Jvm.Cond.methodLink "MovedSpanLaw" (151 : Nat) ({ cls := "MovedSpanModel", name := "likely", desc := "(III)I" } : Jvm.MethodName)) ∈ lw_all := lw_g (lw_at lw_m8 230 rfl) rfl
theorem q2050 : (Jvm.Cond.methodLink "MovedSpanLaw" (155 : Nat) ({ cls := "MovedSpanModel", name := "numbers", desc := "(III)I" } : Jvm.MethodName)) ∈ lw_all := lw_g (lw_at lw_m8 234 rfl) rfl
theorem q2054 : (Jvm.Cond.methodLink "MovedSpanLaw" (162 : Nat) ({ cls := "MovedSpanModel", name := "write", desc := "(IIJ)J" } : Jvm.MethodName)) ∈ lw_all := lw_g (lw_at lw_m8 238 rfl) rfl
theorem q2062 : (Jvm.Cond.methodLink "MovedSpanLaw" (166 : Nat) ({ cls := "MovedSpanModel", name := "lists", desc := "(III)I" } : Jvm.MethodName)) ∈ lw_all := lw_g (lw_at lw_m9 6 rfl) rfl
theorem q2066 : (Jvm.Cond.methodLink "MovedSpanLaw" (170 : Nat) ({ cls := "MovedSpanModel", name := "image", desc := "(I)I" } : Jvm.MethodName)) ∈ lw_all := lw_g (lw_at lw_m9 10 rfl) rfl
theorem q2070 : (Jvm.Cond.methodLink "MovedSpanLaw" (174 : Nat) ({ cls := "MovedSpanModel", name := "restore", desc := "(I)I" } : Jvm.MethodName)) ∈ lw_all := lw_g (lw_at lw_m9 14 rfl) rfl
theorem q2074 : (Jvm.Cond.methodLink "MovedSpanLaw" (178 : Nat) ({ cls := "MovedSpanModel", name := "count", desc := "(I)I" } : Jvm.MethodName)) ∈ lw_all := lw_g (lw_at lw_m9 18 rfl) rfl
theorem q2086 : (Jvm.Cond.constantLong "MovedSpanLaw" (156 : Nat) (4294967295 : Int64)) ∈ lw_all := lw_g (lw_at lw_m9 30 rfl) rfl
theorem q146 : (Jvm.Cond.initialized "java/lang/System") ∈ lw_all := lw_g (lw_at lw_m1 10 rfl) rfl
theorem q368 : (Jvm.Cond.static ({ cls := "java/lang/System", name := "arraycopy", desc := "(Ljava/lang/Object;ILjava/lang/Object;II)V" } : Jvm.MethodName)) ∈ lw_all := lw_g (lw_at lw_m1 232 rfl) rfl
theorem q369 : (Jvm.Cond.native ({ cls := "java/lang/System", name := "arraycopy", desc := "(Ljava/lang/Object;ILjava/lang/Object;II)V" } : Jvm.MethodName)) ∈ lw_all := lw_g (lw_at lw_m1 233 rfl) rfl
theorem q255 : (Jvm.Cond.arrayClass Jvm.ClassFile.FieldType.int) ∈ lw_all := lw_g (lw_at lw_m1 119 rfl) rfl
theorem q257 : (Jvm.Cond.arrayOver (Jvm.ClassFile.FieldType.object "MovedSpan$Act")) ∈ lw_tbl := lw_at lw_m1 121 rfl
theorem q347 : (Jvm.Cond.arrayOver (Jvm.ClassFile.FieldType.object "MovedSpan$State")) ∈ lw_tbl := lw_at lw_m1 211 rfl
theorem q349 : (Jvm.Cond.arrayOver (Jvm.ClassFile.FieldType.object "MovedSpan$Numbers")) ∈ lw_tbl := lw_at lw_m1 213 rfl
theorem q360 : (Jvm.Cond.arrayClass Jvm.ClassFile.FieldType.byte) ∈ lw_all := lw_g (lw_at lw_m1 224 rfl) rfl
theorem q361 : (Jvm.Cond.arrayClass Jvm.ClassFile.FieldType.long) ∈ lw_all := lw_g (lw_at lw_m1 225 rfl) rfl
theorem q362 : (Jvm.Cond.arrayOver (Jvm.ClassFile.FieldType.object "MovedSpan$River")) ∈ lw_tbl := lw_at lw_m1 226 rfl
theorem q1399 : (Jvm.Cond.arrayClass Jvm.ClassFile.FieldType.short) ∈ lw_all := lw_g (lw_at lw_m6 63 rfl) rfl
theorem q1607 : (Jvm.Cond.arrayClass Jvm.ClassFile.FieldType.boolean) ∈ lw_all := lw_g (lw_at lw_m7 31 rfl) rfl
