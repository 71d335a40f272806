set_option maxRecDepth 100000
def dkwX0_movesOf_2 : List UInt8 := [160, 0, 7, 3, 167, 0, 4, 4, 96, 60, 132, 2, 1, 167, 255, 201, 27, 172]
abbrev dktX0_movesOf_2 : List UInt8 := dkwX0_movesOf_2 ++ []
def dkwX0_movesOf_1 : List UInt8 := [180, 0, 86, 28, 42, 180, 0, 17, 180, 0, 217, 96, 4, 100, 42, 180, 0, 17, 180, 0, 217, 112, 46]
abbrev dktX0_movesOf_1 : List UInt8 := dkwX0_movesOf_1 ++ dktX0_movesOf_2
def dkwX0_movesOf_0 : List UInt8 := [3, 60, 3, 61, 28, 42, 180, 0, 17, 180, 0, 217, 162, 0, 50, 27, 42, 180, 0, 86, 28, 46, 42]
abbrev dktX0_movesOf_0 : List UInt8 := dkwX0_movesOf_0 ++ dktX0_movesOf_1
theorem dksX0_movesOf_0 : cX0_movesOf.data.toList.drop 0 = dktX0_movesOf_0 := by decide +kernel
theorem dksX0_movesOf_1 : cX0_movesOf.data.toList.drop 23 = dktX0_movesOf_1 := dk_seg dksX0_movesOf_0 23 rfl rfl
theorem dksX0_movesOf_2 : cX0_movesOf.data.toList.drop 46 = dktX0_movesOf_2 := dk_seg dksX0_movesOf_1 23 rfl rfl
theorem dX0_movesOf_0 : decode cX0_movesOf 0 = .ok (.iconst 0, 1) := dk_3 (dk_at dksX0_movesOf_0 0 rfl rfl)
theorem dX0_movesOf_1 : decode cX0_movesOf 1 = .ok (.istore_n 1, 1) := dk_60 (dk_at dksX0_movesOf_0 1 rfl rfl)
theorem dX0_movesOf_2 : decode cX0_movesOf 2 = .ok (.iconst 0, 1) := dk_3 (dk_at dksX0_movesOf_0 2 rfl rfl)
theorem dX0_movesOf_3 : decode cX0_movesOf 3 = .ok (.istore_n 2, 1) := dk_61 (dk_at dksX0_movesOf_0 3 rfl rfl)
theorem dX0_movesOf_4 : decode cX0_movesOf 4 = .ok (.iload_n 2, 1) := dk_28 (dk_at dksX0_movesOf_0 4 rfl rfl)
theorem dX0_movesOf_5 : decode cX0_movesOf 5 = .ok (.aload_n 0, 1) := dk_42 (dk_at dksX0_movesOf_0 5 rfl rfl)
theorem dX0_movesOf_6 : decode cX0_movesOf 6 = .ok (.getfield 17, 3) := dk_180 0 17 (dk_at dksX0_movesOf_0 6 rfl rfl)
theorem dX0_movesOf_9 : decode cX0_movesOf 9 = .ok (.getfield 217, 3) := dk_180 0 217 (dk_at dksX0_movesOf_0 9 rfl rfl)
theorem dX0_movesOf_12 : decode cX0_movesOf 12 = .ok (.if_icmp .ge 50, 3) := dk_162 0 50 (dk_at dksX0_movesOf_0 12 rfl rfl)
theorem dX0_movesOf_15 : decode cX0_movesOf 15 = .ok (.iload_n 1, 1) := dk_27 (dk_at dksX0_movesOf_0 15 rfl rfl)
theorem dX0_movesOf_16 : decode cX0_movesOf 16 = .ok (.aload_n 0, 1) := dk_42 (dk_at dksX0_movesOf_0 16 rfl rfl)
theorem dX0_movesOf_17 : decode cX0_movesOf 17 = .ok (.getfield 86, 3) := dk_180 0 86 (dk_at dksX0_movesOf_0 17 rfl rfl)
theorem dX0_movesOf_20 : decode cX0_movesOf 20 = .ok (.iload_n 2, 1) := dk_28 (dk_at dksX0_movesOf_0 20 rfl rfl)
theorem dX0_movesOf_21 : decode cX0_movesOf 21 = .ok (.iaload, 1) := dk_46 (dk_at dksX0_movesOf_0 21 rfl rfl)
theorem dX0_movesOf_22 : decode cX0_movesOf 22 = .ok (.aload_n 0, 1) := dk_42 (dk_at dksX0_movesOf_0 22 rfl rfl)
theorem dX0_movesOf_23 : decode cX0_movesOf 23 = .ok (.getfield 86, 3) := dk_180 0 86 (dk_at dksX0_movesOf_1 0 rfl rfl)
theorem dX0_movesOf_26 : decode cX0_movesOf 26 = .ok (.iload_n 2, 1) := dk_28 (dk_at dksX0_movesOf_1 3 rfl rfl)
theorem dX0_movesOf_27 : decode cX0_movesOf 27 = .ok (.aload_n 0, 1) := dk_42 (dk_at dksX0_movesOf_1 4 rfl rfl)
theorem dX0_movesOf_28 : decode cX0_movesOf 28 = .ok (.getfield 17, 3) := dk_180 0 17 (dk_at dksX0_movesOf_1 5 rfl rfl)
theorem dX0_movesOf_31 : decode cX0_movesOf 31 = .ok (.getfield 217, 3) := dk_180 0 217 (dk_at dksX0_movesOf_1 8 rfl rfl)
theorem dX0_movesOf_34 : decode cX0_movesOf 34 = .ok (.iadd, 1) := dk_96 (dk_at dksX0_movesOf_1 11 rfl rfl)
theorem dX0_movesOf_35 : decode cX0_movesOf 35 = .ok (.iconst 1, 1) := dk_4 (dk_at dksX0_movesOf_1 12 rfl rfl)
theorem dX0_movesOf_36 : decode cX0_movesOf 36 = .ok (.isub, 1) := dk_100 (dk_at dksX0_movesOf_1 13 rfl rfl)
theorem dX0_movesOf_37 : decode cX0_movesOf 37 = .ok (.aload_n 0, 1) := dk_42 (dk_at dksX0_movesOf_1 14 rfl rfl)
theorem dX0_movesOf_38 : decode cX0_movesOf 38 = .ok (.getfield 17, 3) := dk_180 0 17 (dk_at dksX0_movesOf_1 15 rfl rfl)
theorem dX0_movesOf_41 : decode cX0_movesOf 41 = .ok (.getfield 217, 3) := dk_180 0 217 (dk_at dksX0_movesOf_1 18 rfl rfl)
theorem dX0_movesOf_44 : decode cX0_movesOf 44 = .ok (.irem, 1) := dk_112 (dk_at dksX0_movesOf_1 21 rfl rfl)
theorem dX0_movesOf_45 : decode cX0_movesOf 45 = .ok (.iaload, 1) := dk_46 (dk_at dksX0_movesOf_1 22 rfl rfl)
theorem dX0_movesOf_46 : decode cX0_movesOf 46 = .ok (.if_icmp .ne 7, 3) := dk_160 0 7 (dk_at dksX0_movesOf_2 0 rfl rfl)
theorem dX0_movesOf_49 : decode cX0_movesOf 49 = .ok (.iconst 0, 1) := dk_3 (dk_at dksX0_movesOf_2 3 rfl rfl)
theorem dX0_movesOf_50 : decode cX0_movesOf 50 = .ok (.goto 4, 3) := dk_167 0 4 (dk_at dksX0_movesOf_2 4 rfl rfl)
theorem dX0_movesOf_53 : decode cX0_movesOf 53 = .ok (.iconst 1, 1) := dk_4 (dk_at dksX0_movesOf_2 7 rfl rfl)
theorem dX0_movesOf_54 : decode cX0_movesOf 54 = .ok (.iadd, 1) := dk_96 (dk_at dksX0_movesOf_2 8 rfl rfl)
theorem dX0_movesOf_55 : decode cX0_movesOf 55 = .ok (.istore_n 1, 1) := dk_60 (dk_at dksX0_movesOf_2 9 rfl rfl)
theorem dX0_movesOf_56 : decode cX0_movesOf 56 = .ok (.iinc 2 1, 3) := dk_132 2 1 (dk_at dksX0_movesOf_2 10 rfl rfl)
theorem dX0_movesOf_59 : decode cX0_movesOf 59 = .ok (.goto (-55), 3) := dk_167 255 201 (dk_at dksX0_movesOf_2 13 rfl rfl)
theorem dX0_movesOf_62 : decode cX0_movesOf 62 = .ok (.iload_n 1, 1) := dk_27 (dk_at dksX0_movesOf_2 16 rfl rfl)
theorem dX0_movesOf_63 : decode cX0_movesOf 63 = .ok (.ireturn, 1) := dk_172 (dk_at dksX0_movesOf_2 17 rfl rfl)
def dkwX0_best_3 : List UInt8 := [172]
abbrev dktX0_best_3 : List UInt8 := dkwX0_best_3 ++ []
def dkwX0_best_2 : List UInt8 := [167, 0, 24, 27, 4, 160, 0, 10, 42, 180, 1, 119, 167, 0, 12, 42, 180, 0, 102, 27, 16, 10, 100, 46]
abbrev dktX0_best_2 : List UInt8 := dkwX0_best_2 ++ dktX0_best_3
def dkwX0_best_1 : List UInt8 := [96, 133, 184, 0, 132, 154, 0, 6, 16, 254, 172, 42, 182, 1, 124, 27, 154, 0, 10, 42, 180, 1, 116]
abbrev dktX0_best_1 : List UInt8 := dkwX0_best_1 ++ dktX0_best_2
def dkwX0_best_0 : List UInt8 := [27, 133, 9, 10, 184, 0, 132, 154, 0, 28, 27, 133, 20, 1, 122, 16, 9, 42, 180, 0, 17, 180, 0, 217]
abbrev dktX0_best_0 : List UInt8 := dkwX0_best_0 ++ dktX0_best_1
theorem dksX0_best_0 : cX0_best.data.toList.drop 0 = dktX0_best_0 := by decide +kernel
theorem dksX0_best_1 : cX0_best.data.toList.drop 24 = dktX0_best_1 := dk_seg dksX0_best_0 24 rfl rfl
theorem dksX0_best_2 : cX0_best.data.toList.drop 47 = dktX0_best_2 := dk_seg dksX0_best_1 23 rfl rfl
theorem dksX0_best_3 : cX0_best.data.toList.drop 71 = dktX0_best_3 := dk_seg dksX0_best_2 24 rfl rfl
theorem dX0_best_0 : decode cX0_best 0 = .ok (.iload_n 1, 1) := dk_27 (dk_at dksX0_best_0 0 rfl rfl)
theorem dX0_best_1 : decode cX0_best 1 = .ok (.i2l, 1) := dk_133 (dk_at dksX0_best_0 1 rfl rfl)
theorem dX0_best_2 : decode cX0_best 2 = .ok (.lconst 0, 1) := dk_9 (dk_at dksX0_best_0 2 rfl rfl)
theorem dX0_best_3 : decode cX0_best 3 = .ok (.lconst 1, 1) := dk_10 (dk_at dksX0_best_0 3 rfl rfl)
theorem dX0_best_4 : decode cX0_best 4 = .ok (.invokestatic 132, 3) := dk_184 0 132 (dk_at dksX0_best_0 4 rfl rfl)
theorem dX0_best_7 : decode cX0_best 7 = .ok (.ifCond .ne 28, 3) := dk_154 0 28 (dk_at dksX0_best_0 7 rfl rfl)
theorem dX0_best_10 : decode cX0_best 10 = .ok (.iload_n 1, 1) := dk_27 (dk_at dksX0_best_0 10 rfl rfl)
theorem dX0_best_11 : decode cX0_best 11 = .ok (.i2l, 1) := dk_133 (dk_at dksX0_best_0 11 rfl rfl)
theorem dX0_best_12 : decode cX0_best 12 = .ok (.ldc2_w 378, 3) := dk_20 1 122 (dk_at dksX0_best_0 12 rfl rfl)
theorem dX0_best_15 : decode cX0_best 15 = .ok (.bipush 9, 2) := dk_16 9 (dk_at dksX0_best_0 15 rfl rfl)
theorem dX0_best_17 : decode cX0_best 17 = .ok (.aload_n 0, 1) := dk_42 (dk_at dksX0_best_0 17 rfl rfl)
theorem dX0_best_18 : decode cX0_best 18 = .ok (.getfield 17, 3) := dk_180 0 17 (dk_at dksX0_best_0 18 rfl rfl)
theorem dX0_best_21 : decode cX0_best 21 = .ok (.getfield 217, 3) := dk_180 0 217 (dk_at dksX0_best_0 21 rfl rfl)
theorem dX0_best_24 : decode cX0_best 24 = .ok (.iadd, 1) := dk_96 (dk_at dksX0_best_1 0 rfl rfl)
theorem dX0_best_25 : decode cX0_best 25 = .ok (.i2l, 1) := dk_133 (dk_at dksX0_best_1 1 rfl rfl)
theorem dX0_best_26 : decode cX0_best 26 = .ok (.invokestatic 132, 3) := dk_184 0 132 (dk_at dksX0_best_1 2 rfl rfl)
theorem dX0_best_29 : decode cX0_best 29 = .ok (.ifCond .ne 6, 3) := dk_154 0 6 (dk_at dksX0_best_1 5 rfl rfl)
theorem dX0_best_32 : decode cX0_best 32 = .ok (.bipush (-2), 2) := dk_16 254 (dk_at dksX0_best_1 8 rfl rfl)
theorem dX0_best_34 : decode cX0_best 34 = .ok (.ireturn, 1) := dk_172 (dk_at dksX0_best_1 10 rfl rfl)
theorem dX0_best_35 : decode cX0_best 35 = .ok (.aload_n 0, 1) := dk_42 (dk_at dksX0_best_1 11 rfl rfl)
theorem dX0_best_36 : decode cX0_best 36 = .ok (.invokevirtual 380, 3) := dk_182 1 124 (dk_at dksX0_best_1 12 rfl rfl)
theorem dX0_best_39 : decode cX0_best 39 = .ok (.iload_n 1, 1) := dk_27 (dk_at dksX0_best_1 15 rfl rfl)
theorem dX0_best_40 : decode cX0_best 40 = .ok (.ifCond .ne 10, 3) := dk_154 0 10 (dk_at dksX0_best_1 16 rfl rfl)
theorem dX0_best_43 : decode cX0_best 43 = .ok (.aload_n 0, 1) := dk_42 (dk_at dksX0_best_1 19 rfl rfl)
theorem dX0_best_44 : decode cX0_best 44 = .ok (.getfield 372, 3) := dk_180 1 116 (dk_at dksX0_best_1 20 rfl rfl)
theorem dX0_best_47 : decode cX0_best 47 = .ok (.goto 24, 3) := dk_167 0 24 (dk_at dksX0_best_2 0 rfl rfl)
theorem dX0_best_50 : decode cX0_best 50 = .ok (.iload_n 1, 1) := dk_27 (dk_at dksX0_best_2 3 rfl rfl)
theorem dX0_best_51 : decode cX0_best 51 = .ok (.iconst 1, 1) := dk_4 (dk_at dksX0_best_2 4 rfl rfl)
theorem dX0_best_52 : decode cX0_best 52 = .ok (.if_icmp .ne 10, 3) := dk_160 0 10 (dk_at dksX0_best_2 5 rfl rfl)
theorem dX0_best_55 : decode cX0_best 55 = .ok (.aload_n 0, 1) := dk_42 (dk_at dksX0_best_2 8 rfl rfl)
theorem dX0_best_56 : decode cX0_best 56 = .ok (.getfield 375, 3) := dk_180 1 119 (dk_at dksX0_best_2 9 rfl rfl)
theorem dX0_best_59 : decode cX0_best 59 = .ok (.goto 12, 3) := dk_167 0 12 (dk_at dksX0_best_2 12 rfl rfl)
theorem dX0_best_62 : decode cX0_best 62 = .ok (.aload_n 0, 1) := dk_42 (dk_at dksX0_best_2 15 rfl rfl)
theorem dX0_best_63 : decode cX0_best 63 = .ok (.getfield 102, 3) := dk_180 0 102 (dk_at dksX0_best_2 16 rfl rfl)
theorem dX0_best_66 : decode cX0_best 66 = .ok (.iload_n 1, 1) := dk_27 (dk_at dksX0_best_2 19 rfl rfl)
theorem dX0_best_67 : decode cX0_best 67 = .ok (.bipush 10, 2) := dk_16 10 (dk_at dksX0_best_2 20 rfl rfl)
theorem dX0_best_69 : decode cX0_best 69 = .ok (.isub, 1) := dk_100 (dk_at dksX0_best_2 22 rfl rfl)
theorem dX0_best_70 : decode cX0_best 70 = .ok (.iaload, 1) := dk_46 (dk_at dksX0_best_2 23 rfl rfl)
theorem dX0_best_71 : decode cX0_best 71 = .ok (.ireturn, 1) := dk_172 (dk_at dksX0_best_3 0 rfl rfl)
def dkwX0_laysWeeks_0 : List UInt8 := [42, 182, 1, 41, 42, 2, 181, 1, 116, 42, 3, 181, 1, 110, 42, 3, 182, 1, 104, 177]
abbrev dktX0_laysWeeks_0 : List UInt8 := dkwX0_laysWeeks_0 ++ []
theorem dksX0_laysWeeks_0 : cX0_laysWeeks.data.toList.drop 0 = dktX0_laysWeeks_0 := by decide +kernel
theorem dX0_laysWeeks_0 : decode cX0_laysWeeks 0 = .ok (.aload_n 0, 1) := dk_42 (dk_at dksX0_laysWeeks_0 0 rfl rfl)
theorem dX0_laysWeeks_1 : decode cX0_laysWeeks 1 = .ok (.invokevirtual 297, 3) := dk_182 1 41 (dk_at dksX0_laysWeeks_0 1 rfl rfl)
theorem dX0_laysWeeks_4 : decode cX0_laysWeeks 4 = .ok (.aload_n 0, 1) := dk_42 (dk_at dksX0_laysWeeks_0 4 rfl rfl)
theorem dX0_laysWeeks_5 : decode cX0_laysWeeks 5 = .ok (.iconst (-1), 1) := dk_2 (dk_at dksX0_laysWeeks_0 5 rfl rfl)
theorem dX0_laysWeeks_6 : decode cX0_laysWeeks 6 = .ok (.putfield 372, 3) := dk_181 1 116 (dk_at dksX0_laysWeeks_0 6 rfl rfl)
theorem dX0_laysWeeks_9 : decode cX0_laysWeeks 9 = .ok (.aload_n 0, 1) := dk_42 (dk_at dksX0_laysWeeks_0 9 rfl rfl)
theorem dX0_laysWeeks_10 : decode cX0_laysWeeks 10 = .ok (.iconst 0, 1) := dk_3 (dk_at dksX0_laysWeeks_0 10 rfl rfl)
theorem dX0_laysWeeks_11 : decode cX0_laysWeeks 11 = .ok (.putfield 366, 3) := dk_181 1 110 (dk_at dksX0_laysWeeks_0 11 rfl rfl)
theorem dX0_laysWeeks_14 : decode cX0_laysWeeks 14 = .ok (.aload_n 0, 1) := dk_42 (dk_at dksX0_laysWeeks_0 14 rfl rfl)
theorem dX0_laysWeeks_15 : decode cX0_laysWeeks 15 = .ok (.iconst 0, 1) := dk_3 (dk_at dksX0_laysWeeks_0 15 rfl rfl)
theorem dX0_laysWeeks_16 : decode cX0_laysWeeks 16 = .ok (.invokevirtual 360, 3) := dk_182 1 104 (dk_at dksX0_laysWeeks_0 16 rfl rfl)
theorem dX0_laysWeeks_19 : decode cX0_laysWeeks 19 = .ok (.return_, 1) := dk_177 (dk_at dksX0_laysWeeks_0 19 rfl rfl)
def dkwX0_goesWeeks_2 : List UInt8 := [167, 0, 4, 28, 79, 42, 27, 4, 96, 182, 1, 104, 132, 2, 1, 167, 255, 213, 177]
abbrev dktX0_goesWeeks_2 : List UInt8 := dkwX0_goesWeeks_2 ++ []
def dkwX0_goesWeeks_1 : List UInt8 := [180, 0, 222, 163, 0, 38, 42, 180, 0, 86, 27, 28, 42, 180, 0, 17, 180, 0, 222, 160, 0, 7, 2]
abbrev dktX0_goesWeeks_1 : List UInt8 := dkwX0_goesWeeks_1 ++ dktX0_goesWeeks_2
def dkwX0_goesWeeks_0 : List UInt8 := [27, 42, 180, 0, 17, 180, 0, 217, 160, 0, 8, 42, 182, 1, 101, 177, 3, 61, 28, 42, 180, 0, 17]
abbrev dktX0_goesWeeks_0 : List UInt8 := dkwX0_goesWeeks_0 ++ dktX0_goesWeeks_1
theorem dksX0_goesWeeks_0 : cX0_goesWeeks.data.toList.drop 0 = dktX0_goesWeeks_0 := by decide +kernel
theorem dksX0_goesWeeks_1 : cX0_goesWeeks.data.toList.drop 23 = dktX0_goesWeeks_1 := dk_seg dksX0_goesWeeks_0 23 rfl rfl
theorem dksX0_goesWeeks_2 : cX0_goesWeeks.data.toList.drop 46 = dktX0_goesWeeks_2 := dk_seg dksX0_goesWeeks_1 23 rfl rfl
theorem dX0_goesWeeks_0 : decode cX0_goesWeeks 0 = .ok (.iload_n 1, 1) := dk_27 (dk_at dksX0_goesWeeks_0 0 rfl rfl)
theorem dX0_goesWeeks_1 : decode cX0_goesWeeks 1 = .ok (.aload_n 0, 1) := dk_42 (dk_at dksX0_goesWeeks_0 1 rfl rfl)
theorem dX0_goesWeeks_2 : decode cX0_goesWeeks 2 = .ok (.getfield 17, 3) := dk_180 0 17 (dk_at dksX0_goesWeeks_0 2 rfl rfl)
theorem dX0_goesWeeks_5 : decode cX0_goesWeeks 5 = .ok (.getfield 217, 3) := dk_180 0 217 (dk_at dksX0_goesWeeks_0 5 rfl rfl)
theorem dX0_goesWeeks_8 : decode cX0_goesWeeks 8 = .ok (.if_icmp .ne 8, 3) := dk_160 0 8 (dk_at dksX0_goesWeeks_0 8 rfl rfl)
theorem dX0_goesWeeks_11 : decode cX0_goesWeeks 11 = .ok (.aload_n 0, 1) := dk_42 (dk_at dksX0_goesWeeks_0 11 rfl rfl)
theorem dX0_goesWeeks_12 : decode cX0_goesWeeks 12 = .ok (.invokevirtual 357, 3) := dk_182 1 101 (dk_at dksX0_goesWeeks_0 12 rfl rfl)
theorem dX0_goesWeeks_15 : decode cX0_goesWeeks 15 = .ok (.return_, 1) := dk_177 (dk_at dksX0_goesWeeks_0 15 rfl rfl)
theorem dX0_goesWeeks_16 : decode cX0_goesWeeks 16 = .ok (.iconst 0, 1) := dk_3 (dk_at dksX0_goesWeeks_0 16 rfl rfl)
theorem dX0_goesWeeks_17 : decode cX0_goesWeeks 17 = .ok (.istore_n 2, 1) := dk_61 (dk_at dksX0_goesWeeks_0 17 rfl rfl)
theorem dX0_goesWeeks_18 : decode cX0_goesWeeks 18 = .ok (.iload_n 2, 1) := dk_28 (dk_at dksX0_goesWeeks_0 18 rfl rfl)
theorem dX0_goesWeeks_19 : decode cX0_goesWeeks 19 = .ok (.aload_n 0, 1) := dk_42 (dk_at dksX0_goesWeeks_0 19 rfl rfl)
theorem dX0_goesWeeks_20 : decode cX0_goesWeeks 20 = .ok (.getfield 17, 3) := dk_180 0 17 (dk_at dksX0_goesWeeks_0 20 rfl rfl)
theorem dX0_goesWeeks_23 : decode cX0_goesWeeks 23 = .ok (.getfield 222, 3) := dk_180 0 222 (dk_at dksX0_goesWeeks_1 0 rfl rfl)
theorem dX0_goesWeeks_26 : decode cX0_goesWeeks 26 = .ok (.if_icmp .gt 38, 3) := dk_163 0 38 (dk_at dksX0_goesWeeks_1 3 rfl rfl)
theorem dX0_goesWeeks_29 : decode cX0_goesWeeks 29 = .ok (.aload_n 0, 1) := dk_42 (dk_at dksX0_goesWeeks_1 6 rfl rfl)
theorem dX0_goesWeeks_30 : decode cX0_goesWeeks 30 = .ok (.getfield 86, 3) := dk_180 0 86 (dk_at dksX0_goesWeeks_1 7 rfl rfl)
theorem dX0_goesWeeks_33 : decode cX0_goesWeeks 33 = .ok (.iload_n 1, 1) := dk_27 (dk_at dksX0_goesWeeks_1 10 rfl rfl)
theorem dX0_goesWeeks_34 : decode cX0_goesWeeks 34 = .ok (.iload_n 2, 1) := dk_28 (dk_at dksX0_goesWeeks_1 11 rfl rfl)
theorem dX0_goesWeeks_35 : decode cX0_goesWeeks 35 = .ok (.aload_n 0, 1) := dk_42 (dk_at dksX0_goesWeeks_1 12 rfl rfl)
theorem dX0_goesWeeks_36 : decode cX0_goesWeeks 36 = .ok (.getfield 17, 3) := dk_180 0 17 (dk_at dksX0_goesWeeks_1 13 rfl rfl)
theorem dX0_goesWeeks_39 : decode cX0_goesWeeks 39 = .ok (.getfield 222, 3) := dk_180 0 222 (dk_at dksX0_goesWeeks_1 16 rfl rfl)
theorem dX0_goesWeeks_42 : decode cX0_goesWeeks 42 = .ok (.if_icmp .ne 7, 3) := dk_160 0 7 (dk_at dksX0_goesWeeks_1 19 rfl rfl)
theorem dX0_goesWeeks_45 : decode cX0_goesWeeks 45 = .ok (.iconst (-1), 1) := dk_2 (dk_at dksX0_goesWeeks_1 22 rfl rfl)
theorem dX0_goesWeeks_46 : decode cX0_goesWeeks 46 = .ok (.goto 4, 3) := dk_167 0 4 (dk_at dksX0_goesWeeks_2 0 rfl rfl)
theorem dX0_goesWeeks_49 : decode cX0_goesWeeks 49 = .ok (.iload_n 2, 1) := dk_28 (dk_at dksX0_goesWeeks_2 3 rfl rfl)
theorem dX0_goesWeeks_50 : decode cX0_goesWeeks 50 = .ok (.iastore, 1) := dk_79 (dk_at dksX0_goesWeeks_2 4 rfl rfl)
theorem dX0_goesWeeks_51 : decode cX0_goesWeeks 51 = .ok (.aload_n 0, 1) := dk_42 (dk_at dksX0_goesWeeks_2 5 rfl rfl)
theorem dX0_goesWeeks_52 : decode cX0_goesWeeks 52 = .ok (.iload_n 1, 1) := dk_27 (dk_at dksX0_goesWeeks_2 6 rfl rfl)
theorem dX0_goesWeeks_53 : decode cX0_goesWeeks 53 = .ok (.iconst 1, 1) := dk_4 (dk_at dksX0_goesWeeks_2 7 rfl rfl)
theorem dX0_goesWeeks_54 : decode cX0_goesWeeks 54 = .ok (.iadd, 1) := dk_96 (dk_at dksX0_goesWeeks_2 8 rfl rfl)
theorem dX0_goesWeeks_55 : decode cX0_goesWeeks 55 = .ok (.invokevirtual 360, 3) := dk_182 1 104 (dk_at dksX0_goesWeeks_2 9 rfl rfl)
theorem dX0_goesWeeks_58 : decode cX0_goesWeeks 58 = .ok (.iinc 2 1, 3) := dk_132 2 1 (dk_at dksX0_goesWeeks_2 12 rfl rfl)
theorem dX0_goesWeeks_61 : decode cX0_goesWeeks 61 = .ok (.goto (-43), 3) := dk_167 255 213 (dk_at dksX0_goesWeeks_2 15 rfl rfl)
theorem dX0_goesWeeks_64 : decode cX0_goesWeeks 64 = .ok (.return_, 1) := dk_177 (dk_at dksX0_goesWeeks_2 18 rfl rfl)
def dkwX0_sees_3 : List UInt8 := [181, 1, 116, 42, 28, 181, 1, 119, 42, 180, 0, 86, 3, 42, 180, 0, 102, 3, 16, 6, 184, 1, 18, 177]
abbrev dktX0_sees_3 : List UInt8 := dkwX0_sees_3 ++ []
def dkwX0_sees_2 : List UInt8 := [161, 0, 19, 27, 42, 180, 1, 116, 160, 0, 12, 28, 42, 180, 1, 119, 161, 0, 4, 177, 42, 27]
abbrev dktX0_sees_2 : List UInt8 := dkwX0_sees_2 ++ dktX0_sees_3
def dkwX0_sees_1 : List UInt8 := [182, 1, 113, 184, 1, 107, 160, 0, 7, 4, 167, 0, 4, 3, 96, 181, 1, 110, 27, 42, 180, 1, 116]
abbrev dktX0_sees_1 : List UInt8 := dkwX0_sees_1 ++ dktX0_sees_2
def dkwX0_sees_0 : List UInt8 := [42, 182, 1, 95, 184, 1, 107, 60, 42, 182, 1, 98, 61, 42, 89, 180, 1, 110, 27, 42, 180, 0, 17]
abbrev dktX0_sees_0 : List UInt8 := dkwX0_sees_0 ++ dktX0_sees_1
theorem dksX0_sees_0 : cX0_sees.data.toList.drop 0 = dktX0_sees_0 := by decide +kernel
theorem dksX0_sees_1 : cX0_sees.data.toList.drop 23 = dktX0_sees_1 := dk_seg dksX0_sees_0 23 rfl rfl
theorem dksX0_sees_2 : cX0_sees.data.toList.drop 46 = dktX0_sees_2 := dk_seg dksX0_sees_1 23 rfl rfl
theorem dksX0_sees_3 : cX0_sees.data.toList.drop 68 = dktX0_sees_3 := dk_seg dksX0_sees_2 22 rfl rfl
theorem dX0_sees_0 : decode cX0_sees 0 = .ok (.aload_n 0, 1) := dk_42 (dk_at dksX0_sees_0 0 rfl rfl)
theorem dX0_sees_1 : decode cX0_sees 1 = .ok (.invokevirtual 351, 3) := dk_182 1 95 (dk_at dksX0_sees_0 1 rfl rfl)
theorem dX0_sees_4 : decode cX0_sees 4 = .ok (.invokestatic 363, 3) := dk_184 1 107 (dk_at dksX0_sees_0 4 rfl rfl)
theorem dX0_sees_7 : decode cX0_sees 7 = .ok (.istore_n 1, 1) := dk_60 (dk_at dksX0_sees_0 7 rfl rfl)
theorem dX0_sees_8 : decode cX0_sees 8 = .ok (.aload_n 0, 1) := dk_42 (dk_at dksX0_sees_0 8 rfl rfl)
theorem dX0_sees_9 : decode cX0_sees 9 = .ok (.invokevirtual 354, 3) := dk_182 1 98 (dk_at dksX0_sees_0 9 rfl rfl)
theorem dX0_sees_12 : decode cX0_sees 12 = .ok (.istore_n 2, 1) := dk_61 (dk_at dksX0_sees_0 12 rfl rfl)
theorem dX0_sees_13 : decode cX0_sees 13 = .ok (.aload_n 0, 1) := dk_42 (dk_at dksX0_sees_0 13 rfl rfl)
theorem dX0_sees_14 : decode cX0_sees 14 = .ok (.dup, 1) := dk_89 (dk_at dksX0_sees_0 14 rfl rfl)
theorem dX0_sees_15 : decode cX0_sees 15 = .ok (.getfield 366, 3) := dk_180 1 110 (dk_at dksX0_sees_0 15 rfl rfl)
theorem dX0_sees_18 : decode cX0_sees 18 = .ok (.iload_n 1, 1) := dk_27 (dk_at dksX0_sees_0 18 rfl rfl)
theorem dX0_sees_19 : decode cX0_sees 19 = .ok (.aload_n 0, 1) := dk_42 (dk_at dksX0_sees_0 19 rfl rfl)
theorem dX0_sees_20 : decode cX0_sees 20 = .ok (.getfield 17, 3) := dk_180 0 17 (dk_at dksX0_sees_0 20 rfl rfl)
theorem dX0_sees_23 : decode cX0_sees 23 = .ok (.invokevirtual 369, 3) := dk_182 1 113 (dk_at dksX0_sees_1 0 rfl rfl)
theorem dX0_sees_26 : decode cX0_sees 26 = .ok (.invokestatic 363, 3) := dk_184 1 107 (dk_at dksX0_sees_1 3 rfl rfl)
theorem dX0_sees_29 : decode cX0_sees 29 = .ok (.if_icmp .ne 7, 3) := dk_160 0 7 (dk_at dksX0_sees_1 6 rfl rfl)
theorem dX0_sees_32 : decode cX0_sees 32 = .ok (.iconst 1, 1) := dk_4 (dk_at dksX0_sees_1 9 rfl rfl)
theorem dX0_sees_33 : decode cX0_sees 33 = .ok (.goto 4, 3) := dk_167 0 4 (dk_at dksX0_sees_1 10 rfl rfl)
theorem dX0_sees_36 : decode cX0_sees 36 = .ok (.iconst 0, 1) := dk_3 (dk_at dksX0_sees_1 13 rfl rfl)
theorem dX0_sees_37 : decode cX0_sees 37 = .ok (.iadd, 1) := dk_96 (dk_at dksX0_sees_1 14 rfl rfl)
theorem dX0_sees_38 : decode cX0_sees 38 = .ok (.putfield 366, 3) := dk_181 1 110 (dk_at dksX0_sees_1 15 rfl rfl)
theorem dX0_sees_41 : decode cX0_sees 41 = .ok (.iload_n 1, 1) := dk_27 (dk_at dksX0_sees_1 18 rfl rfl)
theorem dX0_sees_42 : decode cX0_sees 42 = .ok (.aload_n 0, 1) := dk_42 (dk_at dksX0_sees_1 19 rfl rfl)
theorem dX0_sees_43 : decode cX0_sees 43 = .ok (.getfield 372, 3) := dk_180 1 116 (dk_at dksX0_sees_1 20 rfl rfl)
theorem dX0_sees_46 : decode cX0_sees 46 = .ok (.if_icmp .lt 19, 3) := dk_161 0 19 (dk_at dksX0_sees_2 0 rfl rfl)
theorem dX0_sees_49 : decode cX0_sees 49 = .ok (.iload_n 1, 1) := dk_27 (dk_at dksX0_sees_2 3 rfl rfl)
theorem dX0_sees_50 : decode cX0_sees 50 = .ok (.aload_n 0, 1) := dk_42 (dk_at dksX0_sees_2 4 rfl rfl)
theorem dX0_sees_51 : decode cX0_sees 51 = .ok (.getfield 372, 3) := dk_180 1 116 (dk_at dksX0_sees_2 5 rfl rfl)
theorem dX0_sees_54 : decode cX0_sees 54 = .ok (.if_icmp .ne 12, 3) := dk_160 0 12 (dk_at dksX0_sees_2 8 rfl rfl)
theorem dX0_sees_57 : decode cX0_sees 57 = .ok (.iload_n 2, 1) := dk_28 (dk_at dksX0_sees_2 11 rfl rfl)
theorem dX0_sees_58 : decode cX0_sees 58 = .ok (.aload_n 0, 1) := dk_42 (dk_at dksX0_sees_2 12 rfl rfl)
theorem dX0_sees_59 : decode cX0_sees 59 = .ok (.getfield 375, 3) := dk_180 1 119 (dk_at dksX0_sees_2 13 rfl rfl)
theorem dX0_sees_62 : decode cX0_sees 62 = .ok (.if_icmp .lt 4, 3) := dk_161 0 4 (dk_at dksX0_sees_2 16 rfl rfl)
theorem dX0_sees_65 : decode cX0_sees 65 = .ok (.return_, 1) := dk_177 (dk_at dksX0_sees_2 19 rfl rfl)
theorem dX0_sees_66 : decode cX0_sees 66 = .ok (.aload_n 0, 1) := dk_42 (dk_at dksX0_sees_2 20 rfl rfl)
theorem dX0_sees_67 : decode cX0_sees 67 = .ok (.iload_n 1, 1) := dk_27 (dk_at dksX0_sees_2 21 rfl rfl)
theorem dX0_sees_68 : decode cX0_sees 68 = .ok (.putfield 372, 3) := dk_181 1 116 (dk_at dksX0_sees_3 0 rfl rfl)
theorem dX0_sees_71 : decode cX0_sees 71 = .ok (.aload_n 0, 1) := dk_42 (dk_at dksX0_sees_3 3 rfl rfl)
theorem dX0_sees_72 : decode cX0_sees 72 = .ok (.iload_n 2, 1) := dk_28 (dk_at dksX0_sees_3 4 rfl rfl)
theorem dX0_sees_73 : decode cX0_sees 73 = .ok (.putfield 375, 3) := dk_181 1 119 (dk_at dksX0_sees_3 5 rfl rfl)
theorem dX0_sees_76 : decode cX0_sees 76 = .ok (.aload_n 0, 1) := dk_42 (dk_at dksX0_sees_3 8 rfl rfl)
theorem dX0_sees_77 : decode cX0_sees 77 = .ok (.getfield 86, 3) := dk_180 0 86 (dk_at dksX0_sees_3 9 rfl rfl)
theorem dX0_sees_80 : decode cX0_sees 80 = .ok (.iconst 0, 1) := dk_3 (dk_at dksX0_sees_3 12 rfl rfl)
theorem dX0_sees_81 : decode cX0_sees 81 = .ok (.aload_n 0, 1) := dk_42 (dk_at dksX0_sees_3 13 rfl rfl)
theorem dX0_sees_82 : decode cX0_sees 82 = .ok (.getfield 102, 3) := dk_180 0 102 (dk_at dksX0_sees_3 14 rfl rfl)
theorem dX0_sees_85 : decode cX0_sees 85 = .ok (.iconst 0, 1) := dk_3 (dk_at dksX0_sees_3 17 rfl rfl)
theorem dX0_sees_86 : decode cX0_sees 86 = .ok (.bipush 6, 2) := dk_16 6 (dk_at dksX0_sees_3 18 rfl rfl)
theorem dX0_sees_88 : decode cX0_sees 88 = .ok (.invokestatic 274, 3) := dk_184 1 18 (dk_at dksX0_sees_3 20 rfl rfl)
theorem dX0_sees_91 : decode cX0_sees 91 = .ok (.return_, 1) := dk_177 (dk_at dksX0_sees_3 23 rfl rfl)
def dkwX0_weeks_0 : List UInt8 := [42, 182, 1, 124, 42, 180, 1, 110, 172]
abbrev dktX0_weeks_0 : List UInt8 := dkwX0_weeks_0 ++ []
theorem dksX0_weeks_0 : cX0_weeks.data.toList.drop 0 = dktX0_weeks_0 := by decide +kernel
theorem dX0_weeks_0 : decode cX0_weeks 0 = .ok (.aload_n 0, 1) := dk_42 (dk_at dksX0_weeks_0 0 rfl rfl)
theorem dX0_weeks_1 : decode cX0_weeks 1 = .ok (.invokevirtual 380, 3) := dk_182 1 124 (dk_at dksX0_weeks_0 1 rfl rfl)
theorem dX0_weeks_4 : decode cX0_weeks 4 = .ok (.aload_n 0, 1) := dk_42 (dk_at dksX0_weeks_0 4 rfl rfl)
theorem dX0_weeks_5 : decode cX0_weeks 5 = .ok (.getfield 366, 3) := dk_180 1 110 (dk_at dksX0_weeks_0 5 rfl rfl)
theorem dX0_weeks_8 : decode cX0_weeks 8 = .ok (.ireturn, 1) := dk_172 (dk_at dksX0_weeks_0 8 rfl rfl)
def dkwX0_change_5 : List UInt8 := [61, 132, 5, 1, 167, 255, 171, 42, 180, 0, 86, 29, 21, 4, 79, 132, 3, 1, 167, 255, 135, 28, 172]
abbrev dktX0_change_5 : List UInt8 := dkwX0_change_5 ++ []
def dkwX0_change_4 : List UInt8 := [16, 10, 29, 104, 21, 5, 42, 180, 0, 17, 180, 0, 222, 160, 0, 8, 16, 9, 167, 0, 5, 21, 5, 96]
abbrev dktX0_change_4 : List UInt8 := dkwX0_change_4 ++ dktX0_change_5
def dkwX0_change_3 : List UInt8 := [21, 5, 79, 42, 182, 1, 95, 184, 1, 107, 54, 6, 21, 6, 27, 163, 0, 6, 167, 0, 31, 21, 6, 60]
abbrev dktX0_change_3 : List UInt8 := dkwX0_change_3 ++ dktX0_change_4
def dkwX0_change_2 : List UInt8 := [163, 0, 79, 42, 180, 0, 86, 29, 21, 5, 42, 180, 0, 17, 180, 0, 222, 160, 0, 7, 2, 167, 0, 5]
abbrev dktX0_change_2 : List UInt8 := dkwX0_change_2 ++ dktX0_change_3
def dkwX0_change_1 : List UInt8 := [162, 0, 116, 42, 180, 0, 86, 29, 46, 54, 4, 3, 54, 5, 21, 5, 42, 180, 0, 17, 180, 0, 222]
abbrev dktX0_change_1 : List UInt8 := dkwX0_change_1 ++ dktX0_change_2
def dkwX0_change_0 : List UInt8 := [42, 182, 1, 50, 42, 182, 1, 95, 184, 1, 107, 60, 2, 61, 3, 62, 29, 42, 180, 0, 17, 180, 0, 217]
abbrev dktX0_change_0 : List UInt8 := dkwX0_change_0 ++ dktX0_change_1
theorem dksX0_change_0 : cX0_change.data.toList.drop 0 = dktX0_change_0 := by decide +kernel
theorem dksX0_change_1 : cX0_change.data.toList.drop 24 = dktX0_change_1 := dk_seg dksX0_change_0 24 rfl rfl
theorem dksX0_change_2 : cX0_change.data.toList.drop 47 = dktX0_change_2 := dk_seg dksX0_change_1 23 rfl rfl
theorem dksX0_change_3 : cX0_change.data.toList.drop 71 = dktX0_change_3 := dk_seg dksX0_change_2 24 rfl rfl
theorem dksX0_change_4 : cX0_change.data.toList.drop 95 = dktX0_change_4 := dk_seg dksX0_change_3 24 rfl rfl
theorem dksX0_change_5 : cX0_change.data.toList.drop 119 = dktX0_change_5 := dk_seg dksX0_change_4 24 rfl rfl
theorem dX0_change_0 : decode cX0_change 0 = .ok (.aload_n 0, 1) := dk_42 (dk_at dksX0_change_0 0 rfl rfl)
theorem dX0_change_1 : decode cX0_change 1 = .ok (.invokevirtual 306, 3) := dk_182 1 50 (dk_at dksX0_change_0 1 rfl rfl)
theorem dX0_change_4 : decode cX0_change 4 = .ok (.aload_n 0, 1) := dk_42 (dk_at dksX0_change_0 4 rfl rfl)
theorem dX0_change_5 : decode cX0_change 5 = .ok (.invokevirtual 351, 3) := dk_182 1 95 (dk_at dksX0_change_0 5 rfl rfl)
theorem dX0_change_8 : decode cX0_change 8 = .ok (.invokestatic 363, 3) := dk_184 1 107 (dk_at dksX0_change_0 8 rfl rfl)
theorem dX0_change_11 : decode cX0_change 11 = .ok (.istore_n 1, 1) := dk_60 (dk_at dksX0_change_0 11 rfl rfl)
theorem dX0_change_12 : decode cX0_change 12 = .ok (.iconst (-1), 1) := dk_2 (dk_at dksX0_change_0 12 rfl rfl)
theorem dX0_change_13 : decode cX0_change 13 = .ok (.istore_n 2, 1) := dk_61 (dk_at dksX0_change_0 13 rfl rfl)
theorem dX0_change_14 : decode cX0_change 14 = .ok (.iconst 0, 1) := dk_3 (dk_at dksX0_change_0 14 rfl rfl)
theorem dX0_change_15 : decode cX0_change 15 = .ok (.istore_n 3, 1) := dk_62 (dk_at dksX0_change_0 15 rfl rfl)
theorem dX0_change_16 : decode cX0_change 16 = .ok (.iload_n 3, 1) := dk_29 (dk_at dksX0_change_0 16 rfl rfl)
theorem dX0_change_17 : decode cX0_change 17 = .ok (.aload_n 0, 1) := dk_42 (dk_at dksX0_change_0 17 rfl rfl)
theorem dX0_change_18 : decode cX0_change 18 = .ok (.getfield 17, 3) := dk_180 0 17 (dk_at dksX0_change_0 18 rfl rfl)
theorem dX0_change_21 : decode cX0_change 21 = .ok (.getfield 217, 3) := dk_180 0 217 (dk_at dksX0_change_0 21 rfl rfl)
theorem dX0_change_24 : decode cX0_change 24 = .ok (.if_icmp .ge 116, 3) := dk_162 0 116 (dk_at dksX0_change_1 0 rfl rfl)
theorem dX0_change_27 : decode cX0_change 27 = .ok (.aload_n 0, 1) := dk_42 (dk_at dksX0_change_1 3 rfl rfl)
theorem dX0_change_28 : decode cX0_change 28 = .ok (.getfield 86, 3) := dk_180 0 86 (dk_at dksX0_change_1 4 rfl rfl)
theorem dX0_change_31 : decode cX0_change 31 = .ok (.iload_n 3, 1) := dk_29 (dk_at dksX0_change_1 7 rfl rfl)
theorem dX0_change_32 : decode cX0_change 32 = .ok (.iaload, 1) := dk_46 (dk_at dksX0_change_1 8 rfl rfl)
theorem dX0_change_33 : decode cX0_change 33 = .ok (.istore 4, 2) := dk_54 4 (dk_at dksX0_change_1 9 rfl rfl)
theorem dX0_change_35 : decode cX0_change 35 = .ok (.iconst 0, 1) := dk_3 (dk_at dksX0_change_1 11 rfl rfl)
theorem dX0_change_36 : decode cX0_change 36 = .ok (.istore 5, 2) := dk_54 5 (dk_at dksX0_change_1 12 rfl rfl)
theorem dX0_change_38 : decode cX0_change 38 = .ok (.iload 5, 2) := dk_21 5 (dk_at dksX0_change_1 14 rfl rfl)
theorem dX0_change_40 : decode cX0_change 40 = .ok (.aload_n 0, 1) := dk_42 (dk_at dksX0_change_1 16 rfl rfl)
theorem dX0_change_41 : decode cX0_change 41 = .ok (.getfield 17, 3) := dk_180 0 17 (dk_at dksX0_change_1 17 rfl rfl)
theorem dX0_change_44 : decode cX0_change 44 = .ok (.getfield 222, 3) := dk_180 0 222 (dk_at dksX0_change_1 20 rfl rfl)
theorem dX0_change_47 : decode cX0_change 47 = .ok (.if_icmp .gt 79, 3) := dk_163 0 79 (dk_at dksX0_change_2 0 rfl rfl)
theorem dX0_change_50 : decode cX0_change 50 = .ok (.aload_n 0, 1) := dk_42 (dk_at dksX0_change_2 3 rfl rfl)
theorem dX0_change_51 : decode cX0_change 51 = .ok (.getfield 86, 3) := dk_180 0 86 (dk_at dksX0_change_2 4 rfl rfl)
theorem dX0_change_54 : decode cX0_change 54 = .ok (.iload_n 3, 1) := dk_29 (dk_at dksX0_change_2 7 rfl rfl)
theorem dX0_change_55 : decode cX0_change 55 = .ok (.iload 5, 2) := dk_21 5 (dk_at dksX0_change_2 8 rfl rfl)
theorem dX0_change_57 : decode cX0_change 57 = .ok (.aload_n 0, 1) := dk_42 (dk_at dksX0_change_2 10 rfl rfl)
theorem dX0_change_58 : decode cX0_change 58 = .ok (.getfield 17, 3) := dk_180 0 17 (dk_at dksX0_change_2 11 rfl rfl)
theorem dX0_change_61 : decode cX0_change 61 = .ok (.getfield 222, 3) := dk_180 0 222 (dk_at dksX0_change_2 14 rfl rfl)
theorem dX0_change_64 : decode cX0_change 64 = .ok (.if_icmp .ne 7, 3) := dk_160 0 7 (dk_at dksX0_change_2 17 rfl rfl)
theorem dX0_change_67 : decode cX0_change 67 = .ok (.iconst (-1), 1) := dk_2 (dk_at dksX0_change_2 20 rfl rfl)
theorem dX0_change_68 : decode cX0_change 68 = .ok (.goto 5, 3) := dk_167 0 5 (dk_at dksX0_change_2 21 rfl rfl)
theorem dX0_change_71 : decode cX0_change 71 = .ok (.iload 5, 2) := dk_21 5 (dk_at dksX0_change_3 0 rfl rfl)
theorem dX0_change_73 : decode cX0_change 73 = .ok (.iastore, 1) := dk_79 (dk_at dksX0_change_3 2 rfl rfl)
theorem dX0_change_74 : decode cX0_change 74 = .ok (.aload_n 0, 1) := dk_42 (dk_at dksX0_change_3 3 rfl rfl)
theorem dX0_change_75 : decode cX0_change 75 = .ok (.invokevirtual 351, 3) := dk_182 1 95 (dk_at dksX0_change_3 4 rfl rfl)
theorem dX0_change_78 : decode cX0_change 78 = .ok (.invokestatic 363, 3) := dk_184 1 107 (dk_at dksX0_change_3 7 rfl rfl)
theorem dX0_change_81 : decode cX0_change 81 = .ok (.istore 6, 2) := dk_54 6 (dk_at dksX0_change_3 10 rfl rfl)
theorem dX0_change_83 : decode cX0_change 83 = .ok (.iload 6, 2) := dk_21 6 (dk_at dksX0_change_3 12 rfl rfl)
theorem dX0_change_85 : decode cX0_change 85 = .ok (.iload_n 1, 1) := dk_27 (dk_at dksX0_change_3 14 rfl rfl)
theorem dX0_change_86 : decode cX0_change 86 = .ok (.if_icmp .gt 6, 3) := dk_163 0 6 (dk_at dksX0_change_3 15 rfl rfl)
theorem dX0_change_89 : decode cX0_change 89 = .ok (.goto 31, 3) := dk_167 0 31 (dk_at dksX0_change_3 18 rfl rfl)
theorem dX0_change_92 : decode cX0_change 92 = .ok (.iload 6, 2) := dk_21 6 (dk_at dksX0_change_3 21 rfl rfl)
theorem dX0_change_94 : decode cX0_change 94 = .ok (.istore_n 1, 1) := dk_60 (dk_at dksX0_change_3 23 rfl rfl)
theorem dX0_change_95 : decode cX0_change 95 = .ok (.bipush 10, 2) := dk_16 10 (dk_at dksX0_change_4 0 rfl rfl)
theorem dX0_change_97 : decode cX0_change 97 = .ok (.iload_n 3, 1) := dk_29 (dk_at dksX0_change_4 2 rfl rfl)
theorem dX0_change_98 : decode cX0_change 98 = .ok (.imul, 1) := dk_104 (dk_at dksX0_change_4 3 rfl rfl)
theorem dX0_change_99 : decode cX0_change 99 = .ok (.iload 5, 2) := dk_21 5 (dk_at dksX0_change_4 4 rfl rfl)
theorem dX0_change_101 : decode cX0_change 101 = .ok (.aload_n 0, 1) := dk_42 (dk_at dksX0_change_4 6 rfl rfl)
theorem dX0_change_102 : decode cX0_change 102 = .ok (.getfield 17, 3) := dk_180 0 17 (dk_at dksX0_change_4 7 rfl rfl)
theorem dX0_change_105 : decode cX0_change 105 = .ok (.getfield 222, 3) := dk_180 0 222 (dk_at dksX0_change_4 10 rfl rfl)
theorem dX0_change_108 : decode cX0_change 108 = .ok (.if_icmp .ne 8, 3) := dk_160 0 8 (dk_at dksX0_change_4 13 rfl rfl)
theorem dX0_change_111 : decode cX0_change 111 = .ok (.bipush 9, 2) := dk_16 9 (dk_at dksX0_change_4 16 rfl rfl)
theorem dX0_change_113 : decode cX0_change 113 = .ok (.goto 5, 3) := dk_167 0 5 (dk_at dksX0_change_4 18 rfl rfl)
theorem dX0_change_116 : decode cX0_change 116 = .ok (.iload 5, 2) := dk_21 5 (dk_at dksX0_change_4 21 rfl rfl)
theorem dX0_change_118 : decode cX0_change 118 = .ok (.iadd, 1) := dk_96 (dk_at dksX0_change_4 23 rfl rfl)
theorem dX0_change_119 : decode cX0_change 119 = .ok (.istore_n 2, 1) := dk_61 (dk_at dksX0_change_5 0 rfl rfl)
theorem dX0_change_120 : decode cX0_change 120 = .ok (.iinc 5 1, 3) := dk_132 5 1 (dk_at dksX0_change_5 1 rfl rfl)
theorem dX0_change_123 : decode cX0_change 123 = .ok (.goto (-85), 3) := dk_167 255 171 (dk_at dksX0_change_5 4 rfl rfl)
theorem dX0_change_126 : decode cX0_change 126 = .ok (.aload_n 0, 1) := dk_42 (dk_at dksX0_change_5 7 rfl rfl)
theorem dX0_change_127 : decode cX0_change 127 = .ok (.getfield 86, 3) := dk_180 0 86 (dk_at dksX0_change_5 8 rfl rfl)
theorem dX0_change_130 : decode cX0_change 130 = .ok (.iload_n 3, 1) := dk_29 (dk_at dksX0_change_5 11 rfl rfl)
theorem dX0_change_131 : decode cX0_change 131 = .ok (.iload 4, 2) := dk_21 4 (dk_at dksX0_change_5 12 rfl rfl)
theorem dX0_change_133 : decode cX0_change 133 = .ok (.iastore, 1) := dk_79 (dk_at dksX0_change_5 14 rfl rfl)
theorem dX0_change_134 : decode cX0_change 134 = .ok (.iinc 3 1, 3) := dk_132 3 1 (dk_at dksX0_change_5 15 rfl rfl)
theorem dX0_change_137 : decode cX0_change 137 = .ok (.goto (-121), 3) := dk_167 255 135 (dk_at dksX0_change_5 18 rfl rfl)
theorem dX0_change_140 : decode cX0_change 140 = .ok (.iload_n 2, 1) := dk_28 (dk_at dksX0_change_5 21 rfl rfl)
theorem dX0_change_141 : decode cX0_change 141 = .ok (.ireturn, 1) := dk_172 (dk_at dksX0_change_5 22 rfl rfl)
def dkwX0_shift_4 : List UInt8 := [167, 0, 8, 29, 60, 21, 4, 61, 132, 3, 1, 167, 255, 163, 27, 172]
abbrev dktX0_shift_4 : List UInt8 := dkwX0_shift_4 ++ []
def dkwX0_shift_3 : List UInt8 := [79, 132, 4, 1, 167, 255, 206, 42, 182, 1, 95, 184, 1, 107, 54, 4, 21, 4, 28, 163, 0, 6]
abbrev dktX0_shift_3 : List UInt8 := dkwX0_shift_3 ++ dktX0_shift_4
def dkwX0_shift_2 : List UInt8 := [180, 0, 225, 21, 4, 42, 180, 0, 17, 180, 0, 217, 96, 29, 100, 42, 180, 0, 17, 180, 0, 217, 112, 46]
abbrev dktX0_shift_2 : List UInt8 := dkwX0_shift_2 ++ dktX0_shift_3
def dkwX0_shift_1 : List UInt8 := [21, 4, 42, 180, 0, 17, 180, 0, 217, 162, 0, 44, 42, 180, 0, 86, 21, 4, 42, 180, 0, 60]
abbrev dktX0_shift_1 : List UInt8 := dkwX0_shift_1 ++ dktX0_shift_2
def dkwX0_shift_0 : List UInt8 := [42, 182, 1, 41, 3, 60, 2, 61, 3, 62, 29, 42, 180, 0, 17, 180, 0, 217, 162, 0, 88, 3, 54, 4]
abbrev dktX0_shift_0 : List UInt8 := dkwX0_shift_0 ++ dktX0_shift_1
theorem dksX0_shift_0 : cX0_shift.data.toList.drop 0 = dktX0_shift_0 := by decide +kernel
theorem dksX0_shift_1 : cX0_shift.data.toList.drop 24 = dktX0_shift_1 := dk_seg dksX0_shift_0 24 rfl rfl
theorem dksX0_shift_2 : cX0_shift.data.toList.drop 46 = dktX0_shift_2 := dk_seg dksX0_shift_1 22 rfl rfl
theorem dksX0_shift_3 : cX0_shift.data.toList.drop 70 = dktX0_shift_3 := dk_seg dksX0_shift_2 24 rfl rfl
theorem dksX0_shift_4 : cX0_shift.data.toList.drop 92 = dktX0_shift_4 := dk_seg dksX0_shift_3 22 rfl rfl
theorem dX0_shift_0 : decode cX0_shift 0 = .ok (.aload_n 0, 1) := dk_42 (dk_at dksX0_shift_0 0 rfl rfl)
theorem dX0_shift_1 : decode cX0_shift 1 = .ok (.invokevirtual 297, 3) := dk_182 1 41 (dk_at dksX0_shift_0 1 rfl rfl)
theorem dX0_shift_4 : decode cX0_shift 4 = .ok (.iconst 0, 1) := dk_3 (dk_at dksX0_shift_0 4 rfl rfl)
theorem dX0_shift_5 : decode cX0_shift 5 = .ok (.istore_n 1, 1) := dk_60 (dk_at dksX0_shift_0 5 rfl rfl)
theorem dX0_shift_6 : decode cX0_shift 6 = .ok (.iconst (-1), 1) := dk_2 (dk_at dksX0_shift_0 6 rfl rfl)
theorem dX0_shift_7 : decode cX0_shift 7 = .ok (.istore_n 2, 1) := dk_61 (dk_at dksX0_shift_0 7 rfl rfl)
theorem dX0_shift_8 : decode cX0_shift 8 = .ok (.iconst 0, 1) := dk_3 (dk_at dksX0_shift_0 8 rfl rfl)
theorem dX0_shift_9 : decode cX0_shift 9 = .ok (.istore_n 3, 1) := dk_62 (dk_at dksX0_shift_0 9 rfl rfl)
theorem dX0_shift_10 : decode cX0_shift 10 = .ok (.iload_n 3, 1) := dk_29 (dk_at dksX0_shift_0 10 rfl rfl)
theorem dX0_shift_11 : decode cX0_shift 11 = .ok (.aload_n 0, 1) := dk_42 (dk_at dksX0_shift_0 11 rfl rfl)
theorem dX0_shift_12 : decode cX0_shift 12 = .ok (.getfield 17, 3) := dk_180 0 17 (dk_at dksX0_shift_0 12 rfl rfl)
theorem dX0_shift_15 : decode cX0_shift 15 = .ok (.getfield 217, 3) := dk_180 0 217 (dk_at dksX0_shift_0 15 rfl rfl)
theorem dX0_shift_18 : decode cX0_shift 18 = .ok (.if_icmp .ge 88, 3) := dk_162 0 88 (dk_at dksX0_shift_0 18 rfl rfl)
theorem dX0_shift_21 : decode cX0_shift 21 = .ok (.iconst 0, 1) := dk_3 (dk_at dksX0_shift_0 21 rfl rfl)
theorem dX0_shift_22 : decode cX0_shift 22 = .ok (.istore 4, 2) := dk_54 4 (dk_at dksX0_shift_0 22 rfl rfl)
theorem dX0_shift_24 : decode cX0_shift 24 = .ok (.iload 4, 2) := dk_21 4 (dk_at dksX0_shift_1 0 rfl rfl)
theorem dX0_shift_26 : decode cX0_shift 26 = .ok (.aload_n 0, 1) := dk_42 (dk_at dksX0_shift_1 2 rfl rfl)
theorem dX0_shift_27 : decode cX0_shift 27 = .ok (.getfield 17, 3) := dk_180 0 17 (dk_at dksX0_shift_1 3 rfl rfl)
theorem dX0_shift_30 : decode cX0_shift 30 = .ok (.getfield 217, 3) := dk_180 0 217 (dk_at dksX0_shift_1 6 rfl rfl)
theorem dX0_shift_33 : decode cX0_shift 33 = .ok (.if_icmp .ge 44, 3) := dk_162 0 44 (dk_at dksX0_shift_1 9 rfl rfl)
theorem dX0_shift_36 : decode cX0_shift 36 = .ok (.aload_n 0, 1) := dk_42 (dk_at dksX0_shift_1 12 rfl rfl)
theorem dX0_shift_37 : decode cX0_shift 37 = .ok (.getfield 86, 3) := dk_180 0 86 (dk_at dksX0_shift_1 13 rfl rfl)
theorem dX0_shift_40 : decode cX0_shift 40 = .ok (.iload 4, 2) := dk_21 4 (dk_at dksX0_shift_1 16 rfl rfl)
theorem dX0_shift_42 : decode cX0_shift 42 = .ok (.aload_n 0, 1) := dk_42 (dk_at dksX0_shift_1 18 rfl rfl)
theorem dX0_shift_43 : decode cX0_shift 43 = .ok (.getfield 60, 3) := dk_180 0 60 (dk_at dksX0_shift_1 19 rfl rfl)
theorem dX0_shift_46 : decode cX0_shift 46 = .ok (.getfield 225, 3) := dk_180 0 225 (dk_at dksX0_shift_2 0 rfl rfl)
theorem dX0_shift_49 : decode cX0_shift 49 = .ok (.iload 4, 2) := dk_21 4 (dk_at dksX0_shift_2 3 rfl rfl)
theorem dX0_shift_51 : decode cX0_shift 51 = .ok (.aload_n 0, 1) := dk_42 (dk_at dksX0_shift_2 5 rfl rfl)
theorem dX0_shift_52 : decode cX0_shift 52 = .ok (.getfield 17, 3) := dk_180 0 17 (dk_at dksX0_shift_2 6 rfl rfl)
theorem dX0_shift_55 : decode cX0_shift 55 = .ok (.getfield 217, 3) := dk_180 0 217 (dk_at dksX0_shift_2 9 rfl rfl)
theorem dX0_shift_58 : decode cX0_shift 58 = .ok (.iadd, 1) := dk_96 (dk_at dksX0_shift_2 12 rfl rfl)
theorem dX0_shift_59 : decode cX0_shift 59 = .ok (.iload_n 3, 1) := dk_29 (dk_at dksX0_shift_2 13 rfl rfl)
theorem dX0_shift_60 : decode cX0_shift 60 = .ok (.isub, 1) := dk_100 (dk_at dksX0_shift_2 14 rfl rfl)
theorem dX0_shift_61 : decode cX0_shift 61 = .ok (.aload_n 0, 1) := dk_42 (dk_at dksX0_shift_2 15 rfl rfl)
theorem dX0_shift_62 : decode cX0_shift 62 = .ok (.getfield 17, 3) := dk_180 0 17 (dk_at dksX0_shift_2 16 rfl rfl)
theorem dX0_shift_65 : decode cX0_shift 65 = .ok (.getfield 217, 3) := dk_180 0 217 (dk_at dksX0_shift_2 19 rfl rfl)
theorem dX0_shift_68 : decode cX0_shift 68 = .ok (.irem, 1) := dk_112 (dk_at dksX0_shift_2 22 rfl rfl)
theorem dX0_shift_69 : decode cX0_shift 69 = .ok (.iaload, 1) := dk_46 (dk_at dksX0_shift_2 23 rfl rfl)
theorem dX0_shift_70 : decode cX0_shift 70 = .ok (.iastore, 1) := dk_79 (dk_at dksX0_shift_3 0 rfl rfl)
theorem dX0_shift_71 : decode cX0_shift 71 = .ok (.iinc 4 1, 3) := dk_132 4 1 (dk_at dksX0_shift_3 1 rfl rfl)
theorem dX0_shift_74 : decode cX0_shift 74 = .ok (.goto (-50), 3) := dk_167 255 206 (dk_at dksX0_shift_3 4 rfl rfl)
theorem dX0_shift_77 : decode cX0_shift 77 = .ok (.aload_n 0, 1) := dk_42 (dk_at dksX0_shift_3 7 rfl rfl)
theorem dX0_shift_78 : decode cX0_shift 78 = .ok (.invokevirtual 351, 3) := dk_182 1 95 (dk_at dksX0_shift_3 8 rfl rfl)
theorem dX0_shift_81 : decode cX0_shift 81 = .ok (.invokestatic 363, 3) := dk_184 1 107 (dk_at dksX0_shift_3 11 rfl rfl)
theorem dX0_shift_84 : decode cX0_shift 84 = .ok (.istore 4, 2) := dk_54 4 (dk_at dksX0_shift_3 14 rfl rfl)
theorem dX0_shift_86 : decode cX0_shift 86 = .ok (.iload 4, 2) := dk_21 4 (dk_at dksX0_shift_3 16 rfl rfl)
theorem dX0_shift_88 : decode cX0_shift 88 = .ok (.iload_n 2, 1) := dk_28 (dk_at dksX0_shift_3 18 rfl rfl)
theorem dX0_shift_89 : decode cX0_shift 89 = .ok (.if_icmp .gt 6, 3) := dk_163 0 6 (dk_at dksX0_shift_3 19 rfl rfl)
theorem dX0_shift_92 : decode cX0_shift 92 = .ok (.goto 8, 3) := dk_167 0 8 (dk_at dksX0_shift_4 0 rfl rfl)
theorem dX0_shift_95 : decode cX0_shift 95 = .ok (.iload_n 3, 1) := dk_29 (dk_at dksX0_shift_4 3 rfl rfl)
theorem dX0_shift_96 : decode cX0_shift 96 = .ok (.istore_n 1, 1) := dk_60 (dk_at dksX0_shift_4 4 rfl rfl)
theorem dX0_shift_97 : decode cX0_shift 97 = .ok (.iload 4, 2) := dk_21 4 (dk_at dksX0_shift_4 5 rfl rfl)
theorem dX0_shift_99 : decode cX0_shift 99 = .ok (.istore_n 2, 1) := dk_61 (dk_at dksX0_shift_4 7 rfl rfl)
theorem dX0_shift_100 : decode cX0_shift 100 = .ok (.iinc 3 1, 3) := dk_132 3 1 (dk_at dksX0_shift_4 8 rfl rfl)
theorem dX0_shift_103 : decode cX0_shift 103 = .ok (.goto (-93), 3) := dk_167 255 163 (dk_at dksX0_shift_4 11 rfl rfl)
theorem dX0_shift_106 : decode cX0_shift 106 = .ok (.iload_n 1, 1) := dk_27 (dk_at dksX0_shift_4 14 rfl rfl)
theorem dX0_shift_107 : decode cX0_shift 107 = .ok (.ireturn, 1) := dk_172 (dk_at dksX0_shift_4 15 rfl rfl)
def dkwX0_fits_2 : List UInt8 := [180, 0, 111, 27, 50, 28, 29, 182, 1, 137, 172]
abbrev dktX0_fits_2 : List UInt8 := dkwX0_fits_2 ++ []
def dkwX0_fits_1 : List UInt8 := [182, 1, 134, 167, 0, 5, 16, 254, 54, 4, 21, 4, 153, 0, 6, 21, 4, 172, 42, 182, 1, 50, 42, 42]
abbrev dktX0_fits_1 : List UInt8 := dkwX0_fits_1 ++ dktX0_fits_2
def dkwX0_fits_0 : List UInt8 := [29, 133, 9, 42, 180, 0, 17, 180, 0, 217, 4, 100, 133, 184, 0, 132, 153, 0, 12, 42, 27, 28]
abbrev dktX0_fits_0 : List UInt8 := dkwX0_fits_0 ++ dktX0_fits_1
theorem dksX0_fits_0 : cX0_fits.data.toList.drop 0 = dktX0_fits_0 := by decide +kernel
theorem dksX0_fits_1 : cX0_fits.data.toList.drop 22 = dktX0_fits_1 := dk_seg dksX0_fits_0 22 rfl rfl
theorem dksX0_fits_2 : cX0_fits.data.toList.drop 46 = dktX0_fits_2 := dk_seg dksX0_fits_1 24 rfl rfl
theorem dX0_fits_0 : decode cX0_fits 0 = .ok (.iload_n 3, 1) := dk_29 (dk_at dksX0_fits_0 0 rfl rfl)
theorem dX0_fits_1 : decode cX0_fits 1 = .ok (.i2l, 1) := dk_133 (dk_at dksX0_fits_0 1 rfl rfl)
theorem dX0_fits_2 : decode cX0_fits 2 = .ok (.lconst 0, 1) := dk_9 (dk_at dksX0_fits_0 2 rfl rfl)
theorem dX0_fits_3 : decode cX0_fits 3 = .ok (.aload_n 0, 1) := dk_42 (dk_at dksX0_fits_0 3 rfl rfl)
theorem dX0_fits_4 : decode cX0_fits 4 = .ok (.getfield 17, 3) := dk_180 0 17 (dk_at dksX0_fits_0 4 rfl rfl)
theorem dX0_fits_7 : decode cX0_fits 7 = .ok (.getfield 217, 3) := dk_180 0 217 (dk_at dksX0_fits_0 7 rfl rfl)
theorem dX0_fits_10 : decode cX0_fits 10 = .ok (.iconst 1, 1) := dk_4 (dk_at dksX0_fits_0 10 rfl rfl)
theorem dX0_fits_11 : decode cX0_fits 11 = .ok (.isub, 1) := dk_100 (dk_at dksX0_fits_0 11 rfl rfl)
theorem dX0_fits_12 : decode cX0_fits 12 = .ok (.i2l, 1) := dk_133 (dk_at dksX0_fits_0 12 rfl rfl)
theorem dX0_fits_13 : decode cX0_fits 13 = .ok (.invokestatic 132, 3) := dk_184 0 132 (dk_at dksX0_fits_0 13 rfl rfl)
theorem dX0_fits_16 : decode cX0_fits 16 = .ok (.ifCond .eq 12, 3) := dk_153 0 12 (dk_at dksX0_fits_0 16 rfl rfl)
theorem dX0_fits_19 : decode cX0_fits 19 = .ok (.aload_n 0, 1) := dk_42 (dk_at dksX0_fits_0 19 rfl rfl)
theorem dX0_fits_20 : decode cX0_fits 20 = .ok (.iload_n 1, 1) := dk_27 (dk_at dksX0_fits_0 20 rfl rfl)
theorem dX0_fits_21 : decode cX0_fits 21 = .ok (.iload_n 2, 1) := dk_28 (dk_at dksX0_fits_0 21 rfl rfl)
theorem dX0_fits_22 : decode cX0_fits 22 = .ok (.invokevirtual 390, 3) := dk_182 1 134 (dk_at dksX0_fits_1 0 rfl rfl)
theorem dX0_fits_25 : decode cX0_fits 25 = .ok (.goto 5, 3) := dk_167 0 5 (dk_at dksX0_fits_1 3 rfl rfl)
theorem dX0_fits_28 : decode cX0_fits 28 = .ok (.bipush (-2), 2) := dk_16 254 (dk_at dksX0_fits_1 6 rfl rfl)
theorem dX0_fits_30 : decode cX0_fits 30 = .ok (.istore 4, 2) := dk_54 4 (dk_at dksX0_fits_1 8 rfl rfl)
theorem dX0_fits_32 : decode cX0_fits 32 = .ok (.iload 4, 2) := dk_21 4 (dk_at dksX0_fits_1 10 rfl rfl)
theorem dX0_fits_34 : decode cX0_fits 34 = .ok (.ifCond .eq 6, 3) := dk_153 0 6 (dk_at dksX0_fits_1 12 rfl rfl)
theorem dX0_fits_37 : decode cX0_fits 37 = .ok (.iload 4, 2) := dk_21 4 (dk_at dksX0_fits_1 15 rfl rfl)
theorem dX0_fits_39 : decode cX0_fits 39 = .ok (.ireturn, 1) := dk_172 (dk_at dksX0_fits_1 17 rfl rfl)
theorem dX0_fits_40 : decode cX0_fits 40 = .ok (.aload_n 0, 1) := dk_42 (dk_at dksX0_fits_1 18 rfl rfl)
theorem dX0_fits_41 : decode cX0_fits 41 = .ok (.invokevirtual 306, 3) := dk_182 1 50 (dk_at dksX0_fits_1 19 rfl rfl)
theorem dX0_fits_44 : decode cX0_fits 44 = .ok (.aload_n 0, 1) := dk_42 (dk_at dksX0_fits_1 22 rfl rfl)
theorem dX0_fits_45 : decode cX0_fits 45 = .ok (.aload_n 0, 1) := dk_42 (dk_at dksX0_fits_1 23 rfl rfl)
theorem dX0_fits_46 : decode cX0_fits 46 = .ok (.getfield 111, 3) := dk_180 0 111 (dk_at dksX0_fits_2 0 rfl rfl)
theorem dX0_fits_49 : decode cX0_fits 49 = .ok (.iload_n 1, 1) := dk_27 (dk_at dksX0_fits_2 3 rfl rfl)
theorem dX0_fits_50 : decode cX0_fits 50 = .ok (.aaload, 1) := dk_50 (dk_at dksX0_fits_2 4 rfl rfl)
theorem dX0_fits_51 : decode cX0_fits 51 = .ok (.iload_n 2, 1) := dk_28 (dk_at dksX0_fits_2 5 rfl rfl)
theorem dX0_fits_52 : decode cX0_fits 52 = .ok (.iload_n 3, 1) := dk_29 (dk_at dksX0_fits_2 6 rfl rfl)
theorem dX0_fits_53 : decode cX0_fits 53 = .ok (.invokevirtual 393, 3) := dk_182 1 137 (dk_at dksX0_fits_2 7 rfl rfl)
theorem dX0_fits_56 : decode cX0_fits 56 = .ok (.ireturn, 1) := dk_172 (dk_at dksX0_fits_2 10 rfl rfl)
def dkwX0_seenFault_4 : List UInt8 := [154, 0, 6, 16, 253, 172, 132, 5, 1, 167, 255, 209, 3, 172]
abbrev dktX0_seenFault_4 : List UInt8 := dkwX0_seenFault_4 ++ []
def dkwX0_seenFault_3 : List UInt8 := [182, 0, 241, 20, 0, 220, 148, 153, 0, 23, 42, 180, 0, 17, 25, 4, 21, 5, 182, 0, 241, 182, 1, 37]
abbrev dktX0_seenFault_3 : List UInt8 := dkwX0_seenFault_3 ++ dktX0_seenFault_4
def dkwX0_seenFault_2 : List UInt8 := [154, 0, 6, 16, 252, 172, 3, 54, 5, 21, 5, 25, 4, 182, 0, 239, 162, 0, 43, 25, 4, 21, 5]
abbrev dktX0_seenFault_2 : List UInt8 := dkwX0_seenFault_2 ++ dktX0_seenFault_3
def dkwX0_seenFault_1 : List UInt8 := [172, 42, 180, 0, 111, 27, 50, 58, 4, 25, 4, 182, 0, 239, 133, 10, 20, 1, 65, 184, 0, 132]
abbrev dktX0_seenFault_1 : List UInt8 := dkwX0_seenFault_1 ++ dktX0_seenFault_2
def dkwX0_seenFault_0 : List UInt8 := [42, 28, 182, 0, 169, 153, 0, 11, 42, 27, 182, 0, 254, 167, 0, 5, 16, 254, 62, 29, 153, 0, 5, 29]
abbrev dktX0_seenFault_0 : List UInt8 := dkwX0_seenFault_0 ++ dktX0_seenFault_1
theorem dksX0_seenFault_0 : cX0_seenFault.data.toList.drop 0 = dktX0_seenFault_0 := by decide +kernel
theorem dksX0_seenFault_1 : cX0_seenFault.data.toList.drop 24 = dktX0_seenFault_1 := dk_seg dksX0_seenFault_0 24 rfl rfl
theorem dksX0_seenFault_2 : cX0_seenFault.data.toList.drop 46 = dktX0_seenFault_2 := dk_seg dksX0_seenFault_1 22 rfl rfl
theorem dksX0_seenFault_3 : cX0_seenFault.data.toList.drop 69 = dktX0_seenFault_3 := dk_seg dksX0_seenFault_2 23 rfl rfl
theorem dksX0_seenFault_4 : cX0_seenFault.data.toList.drop 93 = dktX0_seenFault_4 := dk_seg dksX0_seenFault_3 24 rfl rfl
theorem dX0_seenFault_0 : decode cX0_seenFault 0 = .ok (.aload_n 0, 1) := dk_42 (dk_at dksX0_seenFault_0 0 rfl rfl)
theorem dX0_seenFault_1 : decode cX0_seenFault 1 = .ok (.iload_n 2, 1) := dk_28 (dk_at dksX0_seenFault_0 1 rfl rfl)
theorem dX0_seenFault_2 : decode cX0_seenFault 2 = .ok (.invokevirtual 169, 3) := dk_182 0 169 (dk_at dksX0_seenFault_0 2 rfl rfl)
theorem dX0_seenFault_5 : decode cX0_seenFault 5 = .ok (.ifCond .eq 11, 3) := dk_153 0 11 (dk_at dksX0_seenFault_0 5 rfl rfl)
theorem dX0_seenFault_8 : decode cX0_seenFault 8 = .ok (.aload_n 0, 1) := dk_42 (dk_at dksX0_seenFault_0 8 rfl rfl)
theorem dX0_seenFault_9 : decode cX0_seenFault 9 = .ok (.iload_n 1, 1) := dk_27 (dk_at dksX0_seenFault_0 9 rfl rfl)
theorem dX0_seenFault_10 : decode cX0_seenFault 10 = .ok (.invokevirtual 254, 3) := dk_182 0 254 (dk_at dksX0_seenFault_0 10 rfl rfl)
theorem dX0_seenFault_13 : decode cX0_seenFault 13 = .ok (.goto 5, 3) := dk_167 0 5 (dk_at dksX0_seenFault_0 13 rfl rfl)
theorem dX0_seenFault_16 : decode cX0_seenFault 16 = .ok (.bipush (-2), 2) := dk_16 254 (dk_at dksX0_seenFault_0 16 rfl rfl)
theorem dX0_seenFault_18 : decode cX0_seenFault 18 = .ok (.istore_n 3, 1) := dk_62 (dk_at dksX0_seenFault_0 18 rfl rfl)
theorem dX0_seenFault_19 : decode cX0_seenFault 19 = .ok (.iload_n 3, 1) := dk_29 (dk_at dksX0_seenFault_0 19 rfl rfl)
theorem dX0_seenFault_20 : decode cX0_seenFault 20 = .ok (.ifCond .eq 5, 3) := dk_153 0 5 (dk_at dksX0_seenFault_0 20 rfl rfl)
theorem dX0_seenFault_23 : decode cX0_seenFault 23 = .ok (.iload_n 3, 1) := dk_29 (dk_at dksX0_seenFault_0 23 rfl rfl)
theorem dX0_seenFault_24 : decode cX0_seenFault 24 = .ok (.ireturn, 1) := dk_172 (dk_at dksX0_seenFault_1 0 rfl rfl)
theorem dX0_seenFault_25 : decode cX0_seenFault 25 = .ok (.aload_n 0, 1) := dk_42 (dk_at dksX0_seenFault_1 1 rfl rfl)
theorem dX0_seenFault_26 : decode cX0_seenFault 26 = .ok (.getfield 111, 3) := dk_180 0 111 (dk_at dksX0_seenFault_1 2 rfl rfl)
theorem dX0_seenFault_29 : decode cX0_seenFault 29 = .ok (.iload_n 1, 1) := dk_27 (dk_at dksX0_seenFault_1 5 rfl rfl)
theorem dX0_seenFault_30 : decode cX0_seenFault 30 = .ok (.aaload, 1) := dk_50 (dk_at dksX0_seenFault_1 6 rfl rfl)
theorem dX0_seenFault_31 : decode cX0_seenFault 31 = .ok (.astore 4, 2) := dk_58 4 (dk_at dksX0_seenFault_1 7 rfl rfl)
theorem dX0_seenFault_33 : decode cX0_seenFault 33 = .ok (.aload 4, 2) := dk_25 4 (dk_at dksX0_seenFault_1 9 rfl rfl)
theorem dX0_seenFault_35 : decode cX0_seenFault 35 = .ok (.invokevirtual 239, 3) := dk_182 0 239 (dk_at dksX0_seenFault_1 11 rfl rfl)
theorem dX0_seenFault_38 : decode cX0_seenFault 38 = .ok (.i2l, 1) := dk_133 (dk_at dksX0_seenFault_1 14 rfl rfl)
theorem dX0_seenFault_39 : decode cX0_seenFault 39 = .ok (.lconst 1, 1) := dk_10 (dk_at dksX0_seenFault_1 15 rfl rfl)
theorem dX0_seenFault_40 : decode cX0_seenFault 40 = .ok (.ldc2_w 321, 3) := dk_20 1 65 (dk_at dksX0_seenFault_1 16 rfl rfl)
theorem dX0_seenFault_43 : decode cX0_seenFault 43 = .ok (.invokestatic 132, 3) := dk_184 0 132 (dk_at dksX0_seenFault_1 19 rfl rfl)
theorem dX0_seenFault_46 : decode cX0_seenFault 46 = .ok (.ifCond .ne 6, 3) := dk_154 0 6 (dk_at dksX0_seenFault_2 0 rfl rfl)
theorem dX0_seenFault_49 : decode cX0_seenFault 49 = .ok (.bipush (-4), 2) := dk_16 252 (dk_at dksX0_seenFault_2 3 rfl rfl)
theorem dX0_seenFault_51 : decode cX0_seenFault 51 = .ok (.ireturn, 1) := dk_172 (dk_at dksX0_seenFault_2 5 rfl rfl)
theorem dX0_seenFault_52 : decode cX0_seenFault 52 = .ok (.iconst 0, 1) := dk_3 (dk_at dksX0_seenFault_2 6 rfl rfl)
theorem dX0_seenFault_53 : decode cX0_seenFault 53 = .ok (.istore 5, 2) := dk_54 5 (dk_at dksX0_seenFault_2 7 rfl rfl)
theorem dX0_seenFault_55 : decode cX0_seenFault 55 = .ok (.iload 5, 2) := dk_21 5 (dk_at dksX0_seenFault_2 9 rfl rfl)
theorem dX0_seenFault_57 : decode cX0_seenFault 57 = .ok (.aload 4, 2) := dk_25 4 (dk_at dksX0_seenFault_2 11 rfl rfl)
theorem dX0_seenFault_59 : decode cX0_seenFault 59 = .ok (.invokevirtual 239, 3) := dk_182 0 239 (dk_at dksX0_seenFault_2 13 rfl rfl)
theorem dX0_seenFault_62 : decode cX0_seenFault 62 = .ok (.if_icmp .ge 43, 3) := dk_162 0 43 (dk_at dksX0_seenFault_2 16 rfl rfl)
theorem dX0_seenFault_65 : decode cX0_seenFault 65 = .ok (.aload 4, 2) := dk_25 4 (dk_at dksX0_seenFault_2 19 rfl rfl)
theorem dX0_seenFault_67 : decode cX0_seenFault 67 = .ok (.iload 5, 2) := dk_21 5 (dk_at dksX0_seenFault_2 21 rfl rfl)
theorem dX0_seenFault_69 : decode cX0_seenFault 69 = .ok (.invokevirtual 241, 3) := dk_182 0 241 (dk_at dksX0_seenFault_3 0 rfl rfl)
theorem dX0_seenFault_72 : decode cX0_seenFault 72 = .ok (.ldc2_w 220, 3) := dk_20 0 220 (dk_at dksX0_seenFault_3 3 rfl rfl)
theorem dX0_seenFault_75 : decode cX0_seenFault 75 = .ok (.lcmp, 1) := dk_148 (dk_at dksX0_seenFault_3 6 rfl rfl)
theorem dX0_seenFault_76 : decode cX0_seenFault 76 = .ok (.ifCond .eq 23, 3) := dk_153 0 23 (dk_at dksX0_seenFault_3 7 rfl rfl)
theorem dX0_seenFault_79 : decode cX0_seenFault 79 = .ok (.aload_n 0, 1) := dk_42 (dk_at dksX0_seenFault_3 10 rfl rfl)
theorem dX0_seenFault_80 : decode cX0_seenFault 80 = .ok (.getfield 17, 3) := dk_180 0 17 (dk_at dksX0_seenFault_3 11 rfl rfl)
theorem dX0_seenFault_83 : decode cX0_seenFault 83 = .ok (.aload 4, 2) := dk_25 4 (dk_at dksX0_seenFault_3 14 rfl rfl)
theorem dX0_seenFault_85 : decode cX0_seenFault 85 = .ok (.iload 5, 2) := dk_21 5 (dk_at dksX0_seenFault_3 16 rfl rfl)
theorem dX0_seenFault_87 : decode cX0_seenFault 87 = .ok (.invokevirtual 241, 3) := dk_182 0 241 (dk_at dksX0_seenFault_3 18 rfl rfl)
theorem dX0_seenFault_90 : decode cX0_seenFault 90 = .ok (.invokevirtual 293, 3) := dk_182 1 37 (dk_at dksX0_seenFault_3 21 rfl rfl)
theorem dX0_seenFault_93 : decode cX0_seenFault 93 = .ok (.ifCond .ne 6, 3) := dk_154 0 6 (dk_at dksX0_seenFault_4 0 rfl rfl)
theorem dX0_seenFault_96 : decode cX0_seenFault 96 = .ok (.bipush (-3), 2) := dk_16 253 (dk_at dksX0_seenFault_4 3 rfl rfl)
theorem dX0_seenFault_98 : decode cX0_seenFault 98 = .ok (.ireturn, 1) := dk_172 (dk_at dksX0_seenFault_4 5 rfl rfl)
theorem dX0_seenFault_99 : decode cX0_seenFault 99 = .ok (.iinc 5 1, 3) := dk_132 5 1 (dk_at dksX0_seenFault_4 6 rfl rfl)
theorem dX0_seenFault_102 : decode cX0_seenFault 102 = .ok (.goto (-47), 3) := dk_167 255 209 (dk_at dksX0_seenFault_4 9 rfl rfl)
theorem dX0_seenFault_105 : decode cX0_seenFault 105 = .ok (.iconst 0, 1) := dk_3 (dk_at dksX0_seenFault_4 12 rfl rfl)
theorem dX0_seenFault_106 : decode cX0_seenFault 106 = .ok (.ireturn, 1) := dk_172 (dk_at dksX0_seenFault_4 13 rfl rfl)
def dkwX0_fitting_4 : List UInt8 := [167, 255, 178, 42, 180, 0, 86, 29, 21, 4, 79, 21, 5, 172]
abbrev dktX0_fitting_4 : List UInt8 := dkwX0_fitting_4 ++ []
def dkwX0_fitting_3 : List UInt8 := [180, 0, 17, 180, 0, 222, 160, 0, 7, 7, 167, 0, 5, 21, 6, 120, 128, 54, 5, 132, 6, 1]
abbrev dktX0_fitting_3 : List UInt8 := dkwX0_fitting_3 ++ dktX0_fitting_4
def dkwX0_fitting_2 : List UInt8 := [21, 6, 79, 21, 5, 42, 43, 28, 182, 1, 130, 2, 159, 0, 7, 3, 167, 0, 23, 4, 21, 6, 42]
abbrev dktX0_fitting_2 : List UInt8 := dkwX0_fitting_2 ++ dktX0_fitting_3
def dkwX0_fitting_1 : List UInt8 := [163, 0, 72, 42, 180, 0, 86, 29, 21, 6, 42, 180, 0, 17, 180, 0, 222, 160, 0, 7, 2, 167, 0, 5]
abbrev dktX0_fitting_1 : List UInt8 := dkwX0_fitting_1 ++ dktX0_fitting_2
def dkwX0_fitting_0 : List UInt8 := [42, 180, 0, 86, 29, 46, 54, 4, 3, 54, 5, 3, 54, 6, 21, 6, 42, 180, 0, 17, 180, 0, 222]
abbrev dktX0_fitting_0 : List UInt8 := dkwX0_fitting_0 ++ dktX0_fitting_1
theorem dksX0_fitting_0 : cX0_fitting.data.toList.drop 0 = dktX0_fitting_0 := by decide +kernel
theorem dksX0_fitting_1 : cX0_fitting.data.toList.drop 23 = dktX0_fitting_1 := dk_seg dksX0_fitting_0 23 rfl rfl
theorem dksX0_fitting_2 : cX0_fitting.data.toList.drop 47 = dktX0_fitting_2 := dk_seg dksX0_fitting_1 24 rfl rfl
theorem dksX0_fitting_3 : cX0_fitting.data.toList.drop 70 = dktX0_fitting_3 := dk_seg dksX0_fitting_2 23 rfl rfl
theorem dksX0_fitting_4 : cX0_fitting.data.toList.drop 92 = dktX0_fitting_4 := dk_seg dksX0_fitting_3 22 rfl rfl
theorem dX0_fitting_0 : decode cX0_fitting 0 = .ok (.aload_n 0, 1) := dk_42 (dk_at dksX0_fitting_0 0 rfl rfl)
theorem dX0_fitting_1 : decode cX0_fitting 1 = .ok (.getfield 86, 3) := dk_180 0 86 (dk_at dksX0_fitting_0 1 rfl rfl)
theorem dX0_fitting_4 : decode cX0_fitting 4 = .ok (.iload_n 3, 1) := dk_29 (dk_at dksX0_fitting_0 4 rfl rfl)
theorem dX0_fitting_5 : decode cX0_fitting 5 = .ok (.iaload, 1) := dk_46 (dk_at dksX0_fitting_0 5 rfl rfl)
theorem dX0_fitting_6 : decode cX0_fitting 6 = .ok (.istore 4, 2) := dk_54 4 (dk_at dksX0_fitting_0 6 rfl rfl)
theorem dX0_fitting_8 : decode cX0_fitting 8 = .ok (.iconst 0, 1) := dk_3 (dk_at dksX0_fitting_0 8 rfl rfl)
theorem dX0_fitting_9 : decode cX0_fitting 9 = .ok (.istore 5, 2) := dk_54 5 (dk_at dksX0_fitting_0 9 rfl rfl)
theorem dX0_fitting_11 : decode cX0_fitting 11 = .ok (.iconst 0, 1) := dk_3 (dk_at dksX0_fitting_0 11 rfl rfl)
theorem dX0_fitting_12 : decode cX0_fitting 12 = .ok (.istore 6, 2) := dk_54 6 (dk_at dksX0_fitting_0 12 rfl rfl)
theorem dX0_fitting_14 : decode cX0_fitting 14 = .ok (.iload 6, 2) := dk_21 6 (dk_at dksX0_fitting_0 14 rfl rfl)
theorem dX0_fitting_16 : decode cX0_fitting 16 = .ok (.aload_n 0, 1) := dk_42 (dk_at dksX0_fitting_0 16 rfl rfl)
theorem dX0_fitting_17 : decode cX0_fitting 17 = .ok (.getfield 17, 3) := dk_180 0 17 (dk_at dksX0_fitting_0 17 rfl rfl)
theorem dX0_fitting_20 : decode cX0_fitting 20 = .ok (.getfield 222, 3) := dk_180 0 222 (dk_at dksX0_fitting_0 20 rfl rfl)
theorem dX0_fitting_23 : decode cX0_fitting 23 = .ok (.if_icmp .gt 72, 3) := dk_163 0 72 (dk_at dksX0_fitting_1 0 rfl rfl)
theorem dX0_fitting_26 : decode cX0_fitting 26 = .ok (.aload_n 0, 1) := dk_42 (dk_at dksX0_fitting_1 3 rfl rfl)
theorem dX0_fitting_27 : decode cX0_fitting 27 = .ok (.getfield 86, 3) := dk_180 0 86 (dk_at dksX0_fitting_1 4 rfl rfl)
theorem dX0_fitting_30 : decode cX0_fitting 30 = .ok (.iload_n 3, 1) := dk_29 (dk_at dksX0_fitting_1 7 rfl rfl)
theorem dX0_fitting_31 : decode cX0_fitting 31 = .ok (.iload 6, 2) := dk_21 6 (dk_at dksX0_fitting_1 8 rfl rfl)
theorem dX0_fitting_33 : decode cX0_fitting 33 = .ok (.aload_n 0, 1) := dk_42 (dk_at dksX0_fitting_1 10 rfl rfl)
theorem dX0_fitting_34 : decode cX0_fitting 34 = .ok (.getfield 17, 3) := dk_180 0 17 (dk_at dksX0_fitting_1 11 rfl rfl)
theorem dX0_fitting_37 : decode cX0_fitting 37 = .ok (.getfield 222, 3) := dk_180 0 222 (dk_at dksX0_fitting_1 14 rfl rfl)
theorem dX0_fitting_40 : decode cX0_fitting 40 = .ok (.if_icmp .ne 7, 3) := dk_160 0 7 (dk_at dksX0_fitting_1 17 rfl rfl)
theorem dX0_fitting_43 : decode cX0_fitting 43 = .ok (.iconst (-1), 1) := dk_2 (dk_at dksX0_fitting_1 20 rfl rfl)
theorem dX0_fitting_44 : decode cX0_fitting 44 = .ok (.goto 5, 3) := dk_167 0 5 (dk_at dksX0_fitting_1 21 rfl rfl)
theorem dX0_fitting_47 : decode cX0_fitting 47 = .ok (.iload 6, 2) := dk_21 6 (dk_at dksX0_fitting_2 0 rfl rfl)
theorem dX0_fitting_49 : decode cX0_fitting 49 = .ok (.iastore, 1) := dk_79 (dk_at dksX0_fitting_2 2 rfl rfl)
theorem dX0_fitting_50 : decode cX0_fitting 50 = .ok (.iload 5, 2) := dk_21 5 (dk_at dksX0_fitting_2 3 rfl rfl)
theorem dX0_fitting_52 : decode cX0_fitting 52 = .ok (.aload_n 0, 1) := dk_42 (dk_at dksX0_fitting_2 5 rfl rfl)
theorem dX0_fitting_53 : decode cX0_fitting 53 = .ok (.aload_n 1, 1) := dk_43 (dk_at dksX0_fitting_2 6 rfl rfl)
theorem dX0_fitting_54 : decode cX0_fitting 54 = .ok (.iload_n 2, 1) := dk_28 (dk_at dksX0_fitting_2 7 rfl rfl)
theorem dX0_fitting_55 : decode cX0_fitting 55 = .ok (.invokevirtual 386, 3) := dk_182 1 130 (dk_at dksX0_fitting_2 8 rfl rfl)
theorem dX0_fitting_58 : decode cX0_fitting 58 = .ok (.iconst (-1), 1) := dk_2 (dk_at dksX0_fitting_2 11 rfl rfl)
theorem dX0_fitting_59 : decode cX0_fitting 59 = .ok (.if_icmp .eq 7, 3) := dk_159 0 7 (dk_at dksX0_fitting_2 12 rfl rfl)
theorem dX0_fitting_62 : decode cX0_fitting 62 = .ok (.iconst 0, 1) := dk_3 (dk_at dksX0_fitting_2 15 rfl rfl)
theorem dX0_fitting_63 : decode cX0_fitting 63 = .ok (.goto 23, 3) := dk_167 0 23 (dk_at dksX0_fitting_2 16 rfl rfl)
theorem dX0_fitting_66 : decode cX0_fitting 66 = .ok (.iconst 1, 1) := dk_4 (dk_at dksX0_fitting_2 19 rfl rfl)
theorem dX0_fitting_67 : decode cX0_fitting 67 = .ok (.iload 6, 2) := dk_21 6 (dk_at dksX0_fitting_2 20 rfl rfl)
theorem dX0_fitting_69 : decode cX0_fitting 69 = .ok (.aload_n 0, 1) := dk_42 (dk_at dksX0_fitting_2 22 rfl rfl)
theorem dX0_fitting_70 : decode cX0_fitting 70 = .ok (.getfield 17, 3) := dk_180 0 17 (dk_at dksX0_fitting_3 0 rfl rfl)
theorem dX0_fitting_73 : decode cX0_fitting 73 = .ok (.getfield 222, 3) := dk_180 0 222 (dk_at dksX0_fitting_3 3 rfl rfl)
theorem dX0_fitting_76 : decode cX0_fitting 76 = .ok (.if_icmp .ne 7, 3) := dk_160 0 7 (dk_at dksX0_fitting_3 6 rfl rfl)
theorem dX0_fitting_79 : decode cX0_fitting 79 = .ok (.iconst 4, 1) := dk_7 (dk_at dksX0_fitting_3 9 rfl rfl)
theorem dX0_fitting_80 : decode cX0_fitting 80 = .ok (.goto 5, 3) := dk_167 0 5 (dk_at dksX0_fitting_3 10 rfl rfl)
theorem dX0_fitting_83 : decode cX0_fitting 83 = .ok (.iload 6, 2) := dk_21 6 (dk_at dksX0_fitting_3 13 rfl rfl)
theorem dX0_fitting_85 : decode cX0_fitting 85 = .ok (.ishl, 1) := dk_120 (dk_at dksX0_fitting_3 15 rfl rfl)
theorem dX0_fitting_86 : decode cX0_fitting 86 = .ok (.ior, 1) := dk_128 (dk_at dksX0_fitting_3 16 rfl rfl)
theorem dX0_fitting_87 : decode cX0_fitting 87 = .ok (.istore 5, 2) := dk_54 5 (dk_at dksX0_fitting_3 17 rfl rfl)
theorem dX0_fitting_89 : decode cX0_fitting 89 = .ok (.iinc 6 1, 3) := dk_132 6 1 (dk_at dksX0_fitting_3 19 rfl rfl)
theorem dX0_fitting_92 : decode cX0_fitting 92 = .ok (.goto (-78), 3) := dk_167 255 178 (dk_at dksX0_fitting_4 0 rfl rfl)
theorem dX0_fitting_95 : decode cX0_fitting 95 = .ok (.aload_n 0, 1) := dk_42 (dk_at dksX0_fitting_4 3 rfl rfl)
theorem dX0_fitting_96 : decode cX0_fitting 96 = .ok (.getfield 86, 3) := dk_180 0 86 (dk_at dksX0_fitting_4 4 rfl rfl)
theorem dX0_fitting_99 : decode cX0_fitting 99 = .ok (.iload_n 3, 1) := dk_29 (dk_at dksX0_fitting_4 7 rfl rfl)
theorem dX0_fitting_100 : decode cX0_fitting 100 = .ok (.iload 4, 2) := dk_21 4 (dk_at dksX0_fitting_4 8 rfl rfl)
theorem dX0_fitting_102 : decode cX0_fitting 102 = .ok (.iastore, 1) := dk_79 (dk_at dksX0_fitting_4 10 rfl rfl)
theorem dX0_fitting_103 : decode cX0_fitting 103 = .ok (.iload 5, 2) := dk_21 5 (dk_at dksX0_fitting_4 11 rfl rfl)
theorem dX0_fitting_105 : decode cX0_fitting 105 = .ok (.ireturn, 1) := dk_172 (dk_at dksX0_fitting_4 13 rfl rfl)
def dkwX0_firstOdd_3 : List UInt8 := [172]
abbrev dktX0_firstOdd_3 : List UInt8 := dkwX0_firstOdd_3 ++ []
def dkwX0_firstOdd_2 : List UInt8 := [43, 21, 4, 182, 0, 241, 136, 120, 126, 62, 29, 154, 0, 6, 21, 4, 172, 132, 4, 1, 167, 255, 196, 2]
abbrev dktX0_firstOdd_2 : List UInt8 := dkwX0_firstOdd_2 ++ dktX0_firstOdd_3
def dkwX0_firstOdd_1 : List UInt8 := [29, 21, 4, 4, 100, 182, 1, 34, 62, 43, 21, 4, 182, 0, 241, 20, 0, 220, 148, 153, 0, 15, 29, 4]
abbrev dktX0_firstOdd_1 : List UInt8 := dkwX0_firstOdd_1 ++ dktX0_firstOdd_2
def dkwX0_firstOdd_0 : List UInt8 := [42, 182, 1, 127, 62, 3, 54, 4, 21, 4, 43, 182, 0, 239, 162, 0, 57, 21, 4, 158, 0, 14, 42, 28]
abbrev dktX0_firstOdd_0 : List UInt8 := dkwX0_firstOdd_0 ++ dktX0_firstOdd_1
theorem dksX0_firstOdd_0 : cX0_firstOdd.data.toList.drop 0 = dktX0_firstOdd_0 := by decide +kernel
theorem dksX0_firstOdd_1 : cX0_firstOdd.data.toList.drop 24 = dktX0_firstOdd_1 := dk_seg dksX0_firstOdd_0 24 rfl rfl
theorem dksX0_firstOdd_2 : cX0_firstOdd.data.toList.drop 48 = dktX0_firstOdd_2 := dk_seg dksX0_firstOdd_1 24 rfl rfl
theorem dksX0_firstOdd_3 : cX0_firstOdd.data.toList.drop 72 = dktX0_firstOdd_3 := dk_seg dksX0_firstOdd_2 24 rfl rfl
theorem dX0_firstOdd_0 : decode cX0_firstOdd 0 = .ok (.aload_n 0, 1) := dk_42 (dk_at dksX0_firstOdd_0 0 rfl rfl)
theorem dX0_firstOdd_1 : decode cX0_firstOdd 1 = .ok (.invokevirtual 383, 3) := dk_182 1 127 (dk_at dksX0_firstOdd_0 1 rfl rfl)
theorem dX0_firstOdd_4 : decode cX0_firstOdd 4 = .ok (.istore_n 3, 1) := dk_62 (dk_at dksX0_firstOdd_0 4 rfl rfl)
theorem dX0_firstOdd_5 : decode cX0_firstOdd 5 = .ok (.iconst 0, 1) := dk_3 (dk_at dksX0_firstOdd_0 5 rfl rfl)
theorem dX0_firstOdd_6 : decode cX0_firstOdd 6 = .ok (.istore 4, 2) := dk_54 4 (dk_at dksX0_firstOdd_0 6 rfl rfl)
theorem dX0_firstOdd_8 : decode cX0_firstOdd 8 = .ok (.iload 4, 2) := dk_21 4 (dk_at dksX0_firstOdd_0 8 rfl rfl)
theorem dX0_firstOdd_10 : decode cX0_firstOdd 10 = .ok (.aload_n 1, 1) := dk_43 (dk_at dksX0_firstOdd_0 10 rfl rfl)
theorem dX0_firstOdd_11 : decode cX0_firstOdd 11 = .ok (.invokevirtual 239, 3) := dk_182 0 239 (dk_at dksX0_firstOdd_0 11 rfl rfl)
theorem dX0_firstOdd_14 : decode cX0_firstOdd 14 = .ok (.if_icmp .ge 57, 3) := dk_162 0 57 (dk_at dksX0_firstOdd_0 14 rfl rfl)
theorem dX0_firstOdd_17 : decode cX0_firstOdd 17 = .ok (.iload 4, 2) := dk_21 4 (dk_at dksX0_firstOdd_0 17 rfl rfl)
theorem dX0_firstOdd_19 : decode cX0_firstOdd 19 = .ok (.ifCond .le 14, 3) := dk_158 0 14 (dk_at dksX0_firstOdd_0 19 rfl rfl)
theorem dX0_firstOdd_22 : decode cX0_firstOdd 22 = .ok (.aload_n 0, 1) := dk_42 (dk_at dksX0_firstOdd_0 22 rfl rfl)
theorem dX0_firstOdd_23 : decode cX0_firstOdd 23 = .ok (.iload_n 2, 1) := dk_28 (dk_at dksX0_firstOdd_0 23 rfl rfl)
theorem dX0_firstOdd_24 : decode cX0_firstOdd 24 = .ok (.iload_n 3, 1) := dk_29 (dk_at dksX0_firstOdd_1 0 rfl rfl)
theorem dX0_firstOdd_25 : decode cX0_firstOdd 25 = .ok (.iload 4, 2) := dk_21 4 (dk_at dksX0_firstOdd_1 1 rfl rfl)
theorem dX0_firstOdd_27 : decode cX0_firstOdd 27 = .ok (.iconst 1, 1) := dk_4 (dk_at dksX0_firstOdd_1 3 rfl rfl)
theorem dX0_firstOdd_28 : decode cX0_firstOdd 28 = .ok (.isub, 1) := dk_100 (dk_at dksX0_firstOdd_1 4 rfl rfl)
theorem dX0_firstOdd_29 : decode cX0_firstOdd 29 = .ok (.invokevirtual 290, 3) := dk_182 1 34 (dk_at dksX0_firstOdd_1 5 rfl rfl)
theorem dX0_firstOdd_32 : decode cX0_firstOdd 32 = .ok (.istore_n 3, 1) := dk_62 (dk_at dksX0_firstOdd_1 8 rfl rfl)
theorem dX0_firstOdd_33 : decode cX0_firstOdd 33 = .ok (.aload_n 1, 1) := dk_43 (dk_at dksX0_firstOdd_1 9 rfl rfl)
theorem dX0_firstOdd_34 : decode cX0_firstOdd 34 = .ok (.iload 4, 2) := dk_21 4 (dk_at dksX0_firstOdd_1 10 rfl rfl)
theorem dX0_firstOdd_36 : decode cX0_firstOdd 36 = .ok (.invokevirtual 241, 3) := dk_182 0 241 (dk_at dksX0_firstOdd_1 12 rfl rfl)
theorem dX0_firstOdd_39 : decode cX0_firstOdd 39 = .ok (.ldc2_w 220, 3) := dk_20 0 220 (dk_at dksX0_firstOdd_1 15 rfl rfl)
theorem dX0_firstOdd_42 : decode cX0_firstOdd 42 = .ok (.lcmp, 1) := dk_148 (dk_at dksX0_firstOdd_1 18 rfl rfl)
theorem dX0_firstOdd_43 : decode cX0_firstOdd 43 = .ok (.ifCond .eq 15, 3) := dk_153 0 15 (dk_at dksX0_firstOdd_1 19 rfl rfl)
theorem dX0_firstOdd_46 : decode cX0_firstOdd 46 = .ok (.iload_n 3, 1) := dk_29 (dk_at dksX0_firstOdd_1 22 rfl rfl)
theorem dX0_firstOdd_47 : decode cX0_firstOdd 47 = .ok (.iconst 1, 1) := dk_4 (dk_at dksX0_firstOdd_1 23 rfl rfl)
theorem dX0_firstOdd_48 : decode cX0_firstOdd 48 = .ok (.aload_n 1, 1) := dk_43 (dk_at dksX0_firstOdd_2 0 rfl rfl)
theorem dX0_firstOdd_49 : decode cX0_firstOdd 49 = .ok (.iload 4, 2) := dk_21 4 (dk_at dksX0_firstOdd_2 1 rfl rfl)
theorem dX0_firstOdd_51 : decode cX0_firstOdd 51 = .ok (.invokevirtual 241, 3) := dk_182 0 241 (dk_at dksX0_firstOdd_2 3 rfl rfl)
theorem dX0_firstOdd_54 : decode cX0_firstOdd 54 = .ok (.l2i, 1) := dk_136 (dk_at dksX0_firstOdd_2 6 rfl rfl)
theorem dX0_firstOdd_55 : decode cX0_firstOdd 55 = .ok (.ishl, 1) := dk_120 (dk_at dksX0_firstOdd_2 7 rfl rfl)
theorem dX0_firstOdd_56 : decode cX0_firstOdd 56 = .ok (.iand, 1) := dk_126 (dk_at dksX0_firstOdd_2 8 rfl rfl)
theorem dX0_firstOdd_57 : decode cX0_firstOdd 57 = .ok (.istore_n 3, 1) := dk_62 (dk_at dksX0_firstOdd_2 9 rfl rfl)
theorem dX0_firstOdd_58 : decode cX0_firstOdd 58 = .ok (.iload_n 3, 1) := dk_29 (dk_at dksX0_firstOdd_2 10 rfl rfl)
theorem dX0_firstOdd_59 : decode cX0_firstOdd 59 = .ok (.ifCond .ne 6, 3) := dk_154 0 6 (dk_at dksX0_firstOdd_2 11 rfl rfl)
theorem dX0_firstOdd_62 : decode cX0_firstOdd 62 = .ok (.iload 4, 2) := dk_21 4 (dk_at dksX0_firstOdd_2 14 rfl rfl)
theorem dX0_firstOdd_64 : decode cX0_firstOdd 64 = .ok (.ireturn, 1) := dk_172 (dk_at dksX0_firstOdd_2 16 rfl rfl)
theorem dX0_firstOdd_65 : decode cX0_firstOdd 65 = .ok (.iinc 4 1, 3) := dk_132 4 1 (dk_at dksX0_firstOdd_2 17 rfl rfl)
theorem dX0_firstOdd_68 : decode cX0_firstOdd 68 = .ok (.goto (-60), 3) := dk_167 255 196 (dk_at dksX0_firstOdd_2 20 rfl rfl)
theorem dX0_firstOdd_71 : decode cX0_firstOdd 71 = .ok (.iconst (-1), 1) := dk_2 (dk_at dksX0_firstOdd_2 23 rfl rfl)
theorem dX0_firstOdd_72 : decode cX0_firstOdd 72 = .ok (.ireturn, 1) := dk_172 (dk_at dksX0_firstOdd_3 0 rfl rfl)
def dkwX0_spots_0 : List UInt8 := [4, 5, 42, 180, 0, 17, 180, 0, 222, 104, 120, 4, 100, 17, 1, 0, 128, 172]
abbrev dktX0_spots_0 : List UInt8 := dkwX0_spots_0 ++ []
theorem dksX0_spots_0 : cX0_spots.data.toList.drop 0 = dktX0_spots_0 := by decide +kernel
theorem dX0_spots_0 : decode cX0_spots 0 = .ok (.iconst 1, 1) := dk_4 (dk_at dksX0_spots_0 0 rfl rfl)
theorem dX0_spots_1 : decode cX0_spots 1 = .ok (.iconst 2, 1) := dk_5 (dk_at dksX0_spots_0 1 rfl rfl)
theorem dX0_spots_2 : decode cX0_spots 2 = .ok (.aload_n 0, 1) := dk_42 (dk_at dksX0_spots_0 2 rfl rfl)
theorem dX0_spots_3 : decode cX0_spots 3 = .ok (.getfield 17, 3) := dk_180 0 17 (dk_at dksX0_spots_0 3 rfl rfl)
theorem dX0_spots_6 : decode cX0_spots 6 = .ok (.getfield 222, 3) := dk_180 0 222 (dk_at dksX0_spots_0 6 rfl rfl)
theorem dX0_spots_9 : decode cX0_spots 9 = .ok (.imul, 1) := dk_104 (dk_at dksX0_spots_0 9 rfl rfl)
theorem dX0_spots_10 : decode cX0_spots 10 = .ok (.ishl, 1) := dk_120 (dk_at dksX0_spots_0 10 rfl rfl)
theorem dX0_spots_11 : decode cX0_spots 11 = .ok (.iconst 1, 1) := dk_4 (dk_at dksX0_spots_0 11 rfl rfl)
theorem dX0_spots_12 : decode cX0_spots 12 = .ok (.isub, 1) := dk_100 (dk_at dksX0_spots_0 12 rfl rfl)
theorem dX0_spots_13 : decode cX0_spots 13 = .ok (.sipush 256, 3) := dk_17 1 0 (dk_at dksX0_spots_0 13 rfl rfl)
theorem dX0_spots_16 : decode cX0_spots 16 = .ok (.ior, 1) := dk_128 (dk_at dksX0_spots_0 16 rfl rfl)
theorem dX0_spots_17 : decode cX0_spots 17 = .ok (.ireturn, 1) := dk_172 (dk_at dksX0_spots_0 17 rfl rfl)
def dkwX0_surest_3 : List UInt8 := [167, 0, 11, 21, 6, 54, 4, 21, 7, 54, 5, 132, 6, 1, 167, 255, 200, 21, 4, 172]
abbrev dktX0_surest_3 : List UInt8 := dkwX0_surest_3 ++ []
def dkwX0_surest_2 : List UInt8 := [21, 6, 182, 1, 137, 184, 1, 107, 54, 7, 21, 7, 153, 0, 21, 21, 7, 21, 5, 161, 0, 6]
abbrev dktX0_surest_2 : List UInt8 := dkwX0_surest_2 ++ dktX0_surest_3
def dkwX0_surest_1 : List UInt8 := [3, 54, 6, 21, 6, 42, 180, 0, 17, 180, 0, 217, 162, 0, 50, 42, 42, 180, 0, 111, 27, 50, 28]
abbrev dktX0_surest_1 : List UInt8 := dkwX0_surest_1 ++ dktX0_surest_2
def dkwX0_surest_0 : List UInt8 := [42, 27, 28, 182, 1, 134, 62, 29, 153, 0, 5, 29, 172, 42, 182, 1, 50, 2, 54, 4, 16, 6, 54, 5]
abbrev dktX0_surest_0 : List UInt8 := dkwX0_surest_0 ++ dktX0_surest_1
theorem dksX0_surest_0 : cX0_surest.data.toList.drop 0 = dktX0_surest_0 := by decide +kernel
theorem dksX0_surest_1 : cX0_surest.data.toList.drop 24 = dktX0_surest_1 := dk_seg dksX0_surest_0 24 rfl rfl
theorem dksX0_surest_2 : cX0_surest.data.toList.drop 47 = dktX0_surest_2 := dk_seg dksX0_surest_1 23 rfl rfl
theorem dksX0_surest_3 : cX0_surest.data.toList.drop 69 = dktX0_surest_3 := dk_seg dksX0_surest_2 22 rfl rfl
theorem dX0_surest_0 : decode cX0_surest 0 = .ok (.aload_n 0, 1) := dk_42 (dk_at dksX0_surest_0 0 rfl rfl)
theorem dX0_surest_1 : decode cX0_surest 1 = .ok (.iload_n 1, 1) := dk_27 (dk_at dksX0_surest_0 1 rfl rfl)
theorem dX0_surest_2 : decode cX0_surest 2 = .ok (.iload_n 2, 1) := dk_28 (dk_at dksX0_surest_0 2 rfl rfl)
theorem dX0_surest_3 : decode cX0_surest 3 = .ok (.invokevirtual 390, 3) := dk_182 1 134 (dk_at dksX0_surest_0 3 rfl rfl)
theorem dX0_surest_6 : decode cX0_surest 6 = .ok (.istore_n 3, 1) := dk_62 (dk_at dksX0_surest_0 6 rfl rfl)
theorem dX0_surest_7 : decode cX0_surest 7 = .ok (.iload_n 3, 1) := dk_29 (dk_at dksX0_surest_0 7 rfl rfl)
theorem dX0_surest_8 : decode cX0_surest 8 = .ok (.ifCond .eq 5, 3) := dk_153 0 5 (dk_at dksX0_surest_0 8 rfl rfl)
theorem dX0_surest_11 : decode cX0_surest 11 = .ok (.iload_n 3, 1) := dk_29 (dk_at dksX0_surest_0 11 rfl rfl)
theorem dX0_surest_12 : decode cX0_surest 12 = .ok (.ireturn, 1) := dk_172 (dk_at dksX0_surest_0 12 rfl rfl)
theorem dX0_surest_13 : decode cX0_surest 13 = .ok (.aload_n 0, 1) := dk_42 (dk_at dksX0_surest_0 13 rfl rfl)
theorem dX0_surest_14 : decode cX0_surest 14 = .ok (.invokevirtual 306, 3) := dk_182 1 50 (dk_at dksX0_surest_0 14 rfl rfl)
theorem dX0_surest_17 : decode cX0_surest 17 = .ok (.iconst (-1), 1) := dk_2 (dk_at dksX0_surest_0 17 rfl rfl)
theorem dX0_surest_18 : decode cX0_surest 18 = .ok (.istore 4, 2) := dk_54 4 (dk_at dksX0_surest_0 18 rfl rfl)
theorem dX0_surest_20 : decode cX0_surest 20 = .ok (.bipush 6, 2) := dk_16 6 (dk_at dksX0_surest_0 20 rfl rfl)
theorem dX0_surest_22 : decode cX0_surest 22 = .ok (.istore 5, 2) := dk_54 5 (dk_at dksX0_surest_0 22 rfl rfl)
theorem dX0_surest_24 : decode cX0_surest 24 = .ok (.iconst 0, 1) := dk_3 (dk_at dksX0_surest_1 0 rfl rfl)
theorem dX0_surest_25 : decode cX0_surest 25 = .ok (.istore 6, 2) := dk_54 6 (dk_at dksX0_surest_1 1 rfl rfl)
theorem dX0_surest_27 : decode cX0_surest 27 = .ok (.iload 6, 2) := dk_21 6 (dk_at dksX0_surest_1 3 rfl rfl)
theorem dX0_surest_29 : decode cX0_surest 29 = .ok (.aload_n 0, 1) := dk_42 (dk_at dksX0_surest_1 5 rfl rfl)
theorem dX0_surest_30 : decode cX0_surest 30 = .ok (.getfield 17, 3) := dk_180 0 17 (dk_at dksX0_surest_1 6 rfl rfl)
theorem dX0_surest_33 : decode cX0_surest 33 = .ok (.getfield 217, 3) := dk_180 0 217 (dk_at dksX0_surest_1 9 rfl rfl)
theorem dX0_surest_36 : decode cX0_surest 36 = .ok (.if_icmp .ge 50, 3) := dk_162 0 50 (dk_at dksX0_surest_1 12 rfl rfl)
theorem dX0_surest_39 : decode cX0_surest 39 = .ok (.aload_n 0, 1) := dk_42 (dk_at dksX0_surest_1 15 rfl rfl)
theorem dX0_surest_40 : decode cX0_surest 40 = .ok (.aload_n 0, 1) := dk_42 (dk_at dksX0_surest_1 16 rfl rfl)
theorem dX0_surest_41 : decode cX0_surest 41 = .ok (.getfield 111, 3) := dk_180 0 111 (dk_at dksX0_surest_1 17 rfl rfl)
theorem dX0_surest_44 : decode cX0_surest 44 = .ok (.iload_n 1, 1) := dk_27 (dk_at dksX0_surest_1 20 rfl rfl)
theorem dX0_surest_45 : decode cX0_surest 45 = .ok (.aaload, 1) := dk_50 (dk_at dksX0_surest_1 21 rfl rfl)
theorem dX0_surest_46 : decode cX0_surest 46 = .ok (.iload_n 2, 1) := dk_28 (dk_at dksX0_surest_1 22 rfl rfl)
theorem dX0_surest_47 : decode cX0_surest 47 = .ok (.iload 6, 2) := dk_21 6 (dk_at dksX0_surest_2 0 rfl rfl)
theorem dX0_surest_49 : decode cX0_surest 49 = .ok (.invokevirtual 393, 3) := dk_182 1 137 (dk_at dksX0_surest_2 2 rfl rfl)
theorem dX0_surest_52 : decode cX0_surest 52 = .ok (.invokestatic 363, 3) := dk_184 1 107 (dk_at dksX0_surest_2 5 rfl rfl)
theorem dX0_surest_55 : decode cX0_surest 55 = .ok (.istore 7, 2) := dk_54 7 (dk_at dksX0_surest_2 8 rfl rfl)
theorem dX0_surest_57 : decode cX0_surest 57 = .ok (.iload 7, 2) := dk_21 7 (dk_at dksX0_surest_2 10 rfl rfl)
theorem dX0_surest_59 : decode cX0_surest 59 = .ok (.ifCond .eq 21, 3) := dk_153 0 21 (dk_at dksX0_surest_2 12 rfl rfl)
theorem dX0_surest_62 : decode cX0_surest 62 = .ok (.iload 7, 2) := dk_21 7 (dk_at dksX0_surest_2 15 rfl rfl)
theorem dX0_surest_64 : decode cX0_surest 64 = .ok (.iload 5, 2) := dk_21 5 (dk_at dksX0_surest_2 17 rfl rfl)
theorem dX0_surest_66 : decode cX0_surest 66 = .ok (.if_icmp .lt 6, 3) := dk_161 0 6 (dk_at dksX0_surest_2 19 rfl rfl)
theorem dX0_surest_69 : decode cX0_surest 69 = .ok (.goto 11, 3) := dk_167 0 11 (dk_at dksX0_surest_3 0 rfl rfl)
theorem dX0_surest_72 : decode cX0_surest 72 = .ok (.iload 6, 2) := dk_21 6 (dk_at dksX0_surest_3 3 rfl rfl)
theorem dX0_surest_74 : decode cX0_surest 74 = .ok (.istore 4, 2) := dk_54 4 (dk_at dksX0_surest_3 5 rfl rfl)
theorem dX0_surest_76 : decode cX0_surest 76 = .ok (.iload 7, 2) := dk_21 7 (dk_at dksX0_surest_3 7 rfl rfl)
theorem dX0_surest_78 : decode cX0_surest 78 = .ok (.istore 5, 2) := dk_54 5 (dk_at dksX0_surest_3 9 rfl rfl)
theorem dX0_surest_80 : decode cX0_surest 80 = .ok (.iinc 6 1, 3) := dk_132 6 1 (dk_at dksX0_surest_3 11 rfl rfl)
theorem dX0_surest_83 : decode cX0_surest 83 = .ok (.goto (-56), 3) := dk_167 255 200 (dk_at dksX0_surest_3 14 rfl rfl)
theorem dX0_surest_86 : decode cX0_surest 86 = .ok (.iload 4, 2) := dk_21 4 (dk_at dksX0_surest_3 17 rfl rfl)
theorem dX0_surest_88 : decode cX0_surest 88 = .ok (.ireturn, 1) := dk_172 (dk_at dksX0_surest_3 19 rfl rfl)
def dkwX0_odd_1 : List UInt8 := [28, 182, 1, 130, 172]
abbrev dktX0_odd_1 : List UInt8 := dkwX0_odd_1 ++ []
def dkwX0_odd_0 : List UInt8 := [42, 27, 28, 182, 1, 134, 62, 29, 153, 0, 5, 29, 172, 42, 182, 1, 50, 42, 42, 180, 0, 111, 27, 50]
abbrev dktX0_odd_0 : List UInt8 := dkwX0_odd_0 ++ dktX0_odd_1
theorem dksX0_odd_0 : cX0_odd.data.toList.drop 0 = dktX0_odd_0 := by decide +kernel
theorem dksX0_odd_1 : cX0_odd.data.toList.drop 24 = dktX0_odd_1 := dk_seg dksX0_odd_0 24 rfl rfl
theorem dX0_odd_0 : decode cX0_odd 0 = .ok (.aload_n 0, 1) := dk_42 (dk_at dksX0_odd_0 0 rfl rfl)
theorem dX0_odd_1 : decode cX0_odd 1 = .ok (.iload_n 1, 1) := dk_27 (dk_at dksX0_odd_0 1 rfl rfl)
theorem dX0_odd_2 : decode cX0_odd 2 = .ok (.iload_n 2, 1) := dk_28 (dk_at dksX0_odd_0 2 rfl rfl)
theorem dX0_odd_3 : decode cX0_odd 3 = .ok (.invokevirtual 390, 3) := dk_182 1 134 (dk_at dksX0_odd_0 3 rfl rfl)
theorem dX0_odd_6 : decode cX0_odd 6 = .ok (.istore_n 3, 1) := dk_62 (dk_at dksX0_odd_0 6 rfl rfl)
theorem dX0_odd_7 : decode cX0_odd 7 = .ok (.iload_n 3, 1) := dk_29 (dk_at dksX0_odd_0 7 rfl rfl)
theorem dX0_odd_8 : decode cX0_odd 8 = .ok (.ifCond .eq 5, 3) := dk_153 0 5 (dk_at dksX0_odd_0 8 rfl rfl)
theorem dX0_odd_11 : decode cX0_odd 11 = .ok (.iload_n 3, 1) := dk_29 (dk_at dksX0_odd_0 11 rfl rfl)
theorem dX0_odd_12 : decode cX0_odd 12 = .ok (.ireturn, 1) := dk_172 (dk_at dksX0_odd_0 12 rfl rfl)
theorem dX0_odd_13 : decode cX0_odd 13 = .ok (.aload_n 0, 1) := dk_42 (dk_at dksX0_odd_0 13 rfl rfl)
theorem dX0_odd_14 : decode cX0_odd 14 = .ok (.invokevirtual 306, 3) := dk_182 1 50 (dk_at dksX0_odd_0 14 rfl rfl)
theorem dX0_odd_17 : decode cX0_odd 17 = .ok (.aload_n 0, 1) := dk_42 (dk_at dksX0_odd_0 17 rfl rfl)
theorem dX0_odd_18 : decode cX0_odd 18 = .ok (.aload_n 0, 1) := dk_42 (dk_at dksX0_odd_0 18 rfl rfl)
theorem dX0_odd_19 : decode cX0_odd 19 = .ok (.getfield 111, 3) := dk_180 0 111 (dk_at dksX0_odd_0 19 rfl rfl)
theorem dX0_odd_22 : decode cX0_odd 22 = .ok (.iload_n 1, 1) := dk_27 (dk_at dksX0_odd_0 22 rfl rfl)
theorem dX0_odd_23 : decode cX0_odd 23 = .ok (.aaload, 1) := dk_50 (dk_at dksX0_odd_0 23 rfl rfl)
theorem dX0_odd_24 : decode cX0_odd 24 = .ok (.iload_n 2, 1) := dk_28 (dk_at dksX0_odd_1 0 rfl rfl)
theorem dX0_odd_25 : decode cX0_odd 25 = .ok (.invokevirtual 386, 3) := dk_182 1 130 (dk_at dksX0_odd_1 1 rfl rfl)
theorem dX0_odd_28 : decode cX0_odd 28 = .ok (.ireturn, 1) := dk_172 (dk_at dksX0_odd_1 4 rfl rfl)
def dkwX0_chance_3 : List UInt8 := [22, 7, 109, 167, 0, 10, 29, 184, 1, 145, 22, 7, 109, 173]
abbrev dktX0_chance_3 : List UInt8 := dkwX0_chance_3 ++ []
def dkwX0_chance_2 : List UInt8 := [182, 1, 160, 55, 5, 29, 184, 1, 145, 22, 5, 184, 1, 155, 55, 7, 21, 4, 154, 0, 11, 22, 5]
abbrev dktX0_chance_2 : List UInt8 := dkwX0_chance_2 ++ dktX0_chance_3
def dkwX0_chance_1 : List UInt8 := [29, 133, 9, 20, 1, 158, 184, 0, 132, 154, 0, 7, 20, 1, 67, 173, 42, 182, 1, 50, 42, 27, 28, 29]
abbrev dktX0_chance_1 : List UInt8 := dkwX0_chance_1 ++ dktX0_chance_2
def dkwX0_chance_0 : List UInt8 := [42, 27, 28, 182, 1, 47, 153, 0, 14, 21, 4, 133, 9, 10, 184, 0, 132, 154, 0, 7, 20, 1, 63, 173]
abbrev dktX0_chance_0 : List UInt8 := dkwX0_chance_0 ++ dktX0_chance_1
theorem dksX0_chance_0 : cX0_chance.data.toList.drop 0 = dktX0_chance_0 := by decide +kernel
theorem dksX0_chance_1 : cX0_chance.data.toList.drop 24 = dktX0_chance_1 := dk_seg dksX0_chance_0 24 rfl rfl
theorem dksX0_chance_2 : cX0_chance.data.toList.drop 48 = dktX0_chance_2 := dk_seg dksX0_chance_1 24 rfl rfl
theorem dksX0_chance_3 : cX0_chance.data.toList.drop 71 = dktX0_chance_3 := dk_seg dksX0_chance_2 23 rfl rfl
theorem dX0_chance_0 : decode cX0_chance 0 = .ok (.aload_n 0, 1) := dk_42 (dk_at dksX0_chance_0 0 rfl rfl)
theorem dX0_chance_1 : decode cX0_chance 1 = .ok (.iload_n 1, 1) := dk_27 (dk_at dksX0_chance_0 1 rfl rfl)
theorem dX0_chance_2 : decode cX0_chance 2 = .ok (.iload_n 2, 1) := dk_28 (dk_at dksX0_chance_0 2 rfl rfl)
theorem dX0_chance_3 : decode cX0_chance 3 = .ok (.invokevirtual 303, 3) := dk_182 1 47 (dk_at dksX0_chance_0 3 rfl rfl)
theorem dX0_chance_6 : decode cX0_chance 6 = .ok (.ifCond .eq 14, 3) := dk_153 0 14 (dk_at dksX0_chance_0 6 rfl rfl)
theorem dX0_chance_9 : decode cX0_chance 9 = .ok (.iload 4, 2) := dk_21 4 (dk_at dksX0_chance_0 9 rfl rfl)
theorem dX0_chance_11 : decode cX0_chance 11 = .ok (.i2l, 1) := dk_133 (dk_at dksX0_chance_0 11 rfl rfl)
theorem dX0_chance_12 : decode cX0_chance 12 = .ok (.lconst 0, 1) := dk_9 (dk_at dksX0_chance_0 12 rfl rfl)
theorem dX0_chance_13 : decode cX0_chance 13 = .ok (.lconst 1, 1) := dk_10 (dk_at dksX0_chance_0 13 rfl rfl)
theorem dX0_chance_14 : decode cX0_chance 14 = .ok (.invokestatic 132, 3) := dk_184 0 132 (dk_at dksX0_chance_0 14 rfl rfl)
theorem dX0_chance_17 : decode cX0_chance 17 = .ok (.ifCond .ne 7, 3) := dk_154 0 7 (dk_at dksX0_chance_0 17 rfl rfl)
theorem dX0_chance_20 : decode cX0_chance 20 = .ok (.ldc2_w 319, 3) := dk_20 1 63 (dk_at dksX0_chance_0 20 rfl rfl)
theorem dX0_chance_23 : decode cX0_chance 23 = .ok (.lreturn, 1) := dk_173 (dk_at dksX0_chance_0 23 rfl rfl)
theorem dX0_chance_24 : decode cX0_chance 24 = .ok (.iload_n 3, 1) := dk_29 (dk_at dksX0_chance_1 0 rfl rfl)
theorem dX0_chance_25 : decode cX0_chance 25 = .ok (.i2l, 1) := dk_133 (dk_at dksX0_chance_1 1 rfl rfl)
theorem dX0_chance_26 : decode cX0_chance 26 = .ok (.lconst 0, 1) := dk_9 (dk_at dksX0_chance_1 2 rfl rfl)
theorem dX0_chance_27 : decode cX0_chance 27 = .ok (.ldc2_w 414, 3) := dk_20 1 158 (dk_at dksX0_chance_1 3 rfl rfl)
theorem dX0_chance_30 : decode cX0_chance 30 = .ok (.invokestatic 132, 3) := dk_184 0 132 (dk_at dksX0_chance_1 6 rfl rfl)
theorem dX0_chance_33 : decode cX0_chance 33 = .ok (.ifCond .ne 7, 3) := dk_154 0 7 (dk_at dksX0_chance_1 9 rfl rfl)
theorem dX0_chance_36 : decode cX0_chance 36 = .ok (.ldc2_w 323, 3) := dk_20 1 67 (dk_at dksX0_chance_1 12 rfl rfl)
theorem dX0_chance_39 : decode cX0_chance 39 = .ok (.lreturn, 1) := dk_173 (dk_at dksX0_chance_1 15 rfl rfl)
theorem dX0_chance_40 : decode cX0_chance 40 = .ok (.aload_n 0, 1) := dk_42 (dk_at dksX0_chance_1 16 rfl rfl)
theorem dX0_chance_41 : decode cX0_chance 41 = .ok (.invokevirtual 306, 3) := dk_182 1 50 (dk_at dksX0_chance_1 17 rfl rfl)
theorem dX0_chance_44 : decode cX0_chance 44 = .ok (.aload_n 0, 1) := dk_42 (dk_at dksX0_chance_1 20 rfl rfl)
theorem dX0_chance_45 : decode cX0_chance 45 = .ok (.iload_n 1, 1) := dk_27 (dk_at dksX0_chance_1 21 rfl rfl)
theorem dX0_chance_46 : decode cX0_chance 46 = .ok (.iload_n 2, 1) := dk_28 (dk_at dksX0_chance_1 22 rfl rfl)
theorem dX0_chance_47 : decode cX0_chance 47 = .ok (.iload_n 3, 1) := dk_29 (dk_at dksX0_chance_1 23 rfl rfl)
theorem dX0_chance_48 : decode cX0_chance 48 = .ok (.invokevirtual 416, 3) := dk_182 1 160 (dk_at dksX0_chance_2 0 rfl rfl)
theorem dX0_chance_51 : decode cX0_chance 51 = .ok (.lstore 5, 2) := dk_55 5 (dk_at dksX0_chance_2 3 rfl rfl)
theorem dX0_chance_53 : decode cX0_chance 53 = .ok (.iload_n 3, 1) := dk_29 (dk_at dksX0_chance_2 5 rfl rfl)
theorem dX0_chance_54 : decode cX0_chance 54 = .ok (.invokestatic 401, 3) := dk_184 1 145 (dk_at dksX0_chance_2 6 rfl rfl)
theorem dX0_chance_57 : decode cX0_chance 57 = .ok (.lload 5, 2) := dk_22 5 (dk_at dksX0_chance_2 9 rfl rfl)
theorem dX0_chance_59 : decode cX0_chance 59 = .ok (.invokestatic 411, 3) := dk_184 1 155 (dk_at dksX0_chance_2 11 rfl rfl)
theorem dX0_chance_62 : decode cX0_chance 62 = .ok (.lstore 7, 2) := dk_55 7 (dk_at dksX0_chance_2 14 rfl rfl)
theorem dX0_chance_64 : decode cX0_chance 64 = .ok (.iload 4, 2) := dk_21 4 (dk_at dksX0_chance_2 16 rfl rfl)
theorem dX0_chance_66 : decode cX0_chance 66 = .ok (.ifCond .ne 11, 3) := dk_154 0 11 (dk_at dksX0_chance_2 18 rfl rfl)
theorem dX0_chance_69 : decode cX0_chance 69 = .ok (.lload 5, 2) := dk_22 5 (dk_at dksX0_chance_2 21 rfl rfl)
theorem dX0_chance_71 : decode cX0_chance 71 = .ok (.lload 7, 2) := dk_22 7 (dk_at dksX0_chance_3 0 rfl rfl)
theorem dX0_chance_73 : decode cX0_chance 73 = .ok (.ldiv, 1) := dk_109 (dk_at dksX0_chance_3 2 rfl rfl)
theorem dX0_chance_74 : decode cX0_chance 74 = .ok (.goto 10, 3) := dk_167 0 10 (dk_at dksX0_chance_3 3 rfl rfl)
theorem dX0_chance_77 : decode cX0_chance 77 = .ok (.iload_n 3, 1) := dk_29 (dk_at dksX0_chance_3 6 rfl rfl)
theorem dX0_chance_78 : decode cX0_chance 78 = .ok (.invokestatic 401, 3) := dk_184 1 145 (dk_at dksX0_chance_3 7 rfl rfl)
theorem dX0_chance_81 : decode cX0_chance 81 = .ok (.lload 7, 2) := dk_22 7 (dk_at dksX0_chance_3 10 rfl rfl)
theorem dX0_chance_83 : decode cX0_chance 83 = .ok (.ldiv, 1) := dk_109 (dk_at dksX0_chance_3 12 rfl rfl)
theorem dX0_chance_84 : decode cX0_chance 84 = .ok (.lreturn, 1) := dk_173 (dk_at dksX0_chance_3 13 rfl rfl)
def dkwX0_chanceOf_7 : List UInt8 := [104, 42, 180, 0, 60, 180, 0, 173, 27, 46, 96, 47, 173]
abbrev dktX0_chanceOf_7 : List UInt8 := dkwX0_chanceOf_7 ++ []
def dkwX0_chanceOf_6 : List UInt8 := [167, 0, 4, 9, 80, 132, 5, 1, 167, 255, 154, 132, 4, 1, 167, 255, 139, 42, 180, 0, 105, 16, 9, 29]
abbrev dktX0_chanceOf_6 : List UInt8 := dkwX0_chanceOf_6 ++ dktX0_chanceOf_7
def dkwX0_chanceOf_5 : List UInt8 := [42, 180, 0, 17, 180, 1, 148, 100, 133, 42, 27, 21, 5, 29, 29, 21, 4, 100, 3, 182, 1, 151, 105, 97]
abbrev dktX0_chanceOf_5 : List UInt8 := dkwX0_chanceOf_5 ++ dktX0_chanceOf_6
def dkwX0_chanceOf_4 : List UInt8 := [42, 180, 0, 17, 180, 1, 148, 133, 42, 27, 21, 5, 29, 29, 21, 4, 100, 4, 182, 1, 151, 105, 16, 10]
abbrev dktX0_chanceOf_4 : List UInt8 := dkwX0_chanceOf_4 ++ dktX0_chanceOf_5
def dkwX0_chanceOf_3 : List UInt8 := [160, 0, 11, 21, 4, 184, 1, 145, 167, 0, 68, 42, 180, 0, 17, 21, 5, 133, 182, 1, 37, 153, 0, 54]
abbrev dktX0_chanceOf_3 : List UInt8 := dkwX0_chanceOf_3 ++ dktX0_chanceOf_4
def dkwX0_chanceOf_2 : List UInt8 := [21, 5, 16, 9, 162, 0, 101, 42, 180, 0, 105, 16, 9, 21, 4, 104, 21, 5, 96, 21, 5, 28]
abbrev dktX0_chanceOf_2 : List UInt8 := dkwX0_chanceOf_2 ++ dktX0_chanceOf_3
def dkwX0_chanceOf_1 : List UInt8 := [167, 0, 4, 9, 80, 132, 4, 1, 167, 255, 228, 4, 54, 4, 21, 4, 29, 163, 0, 117, 3, 54, 5]
abbrev dktX0_chanceOf_1 : List UInt8 := dkwX0_chanceOf_1 ++ dktX0_chanceOf_2
def dkwX0_chanceOf_0 : List UInt8 := [3, 54, 4, 21, 4, 16, 9, 162, 0, 27, 42, 180, 0, 105, 21, 4, 21, 4, 28, 160, 0, 7, 10]
abbrev dktX0_chanceOf_0 : List UInt8 := dkwX0_chanceOf_0 ++ dktX0_chanceOf_1
theorem dksX0_chanceOf_0 : cX0_chanceOf.data.toList.drop 0 = dktX0_chanceOf_0 := by decide +kernel
theorem dksX0_chanceOf_1 : cX0_chanceOf.data.toList.drop 23 = dktX0_chanceOf_1 := dk_seg dksX0_chanceOf_0 23 rfl rfl
theorem dksX0_chanceOf_2 : cX0_chanceOf.data.toList.drop 46 = dktX0_chanceOf_2 := dk_seg dksX0_chanceOf_1 23 rfl rfl
theorem dksX0_chanceOf_3 : cX0_chanceOf.data.toList.drop 68 = dktX0_chanceOf_3 := dk_seg dksX0_chanceOf_2 22 rfl rfl
theorem dksX0_chanceOf_4 : cX0_chanceOf.data.toList.drop 92 = dktX0_chanceOf_4 := dk_seg dksX0_chanceOf_3 24 rfl rfl
theorem dksX0_chanceOf_5 : cX0_chanceOf.data.toList.drop 116 = dktX0_chanceOf_5 := dk_seg dksX0_chanceOf_4 24 rfl rfl
theorem dksX0_chanceOf_6 : cX0_chanceOf.data.toList.drop 140 = dktX0_chanceOf_6 := dk_seg dksX0_chanceOf_5 24 rfl rfl
theorem dksX0_chanceOf_7 : cX0_chanceOf.data.toList.drop 164 = dktX0_chanceOf_7 := dk_seg dksX0_chanceOf_6 24 rfl rfl
theorem dX0_chanceOf_0 : decode cX0_chanceOf 0 = .ok (.iconst 0, 1) := dk_3 (dk_at dksX0_chanceOf_0 0 rfl rfl)
theorem dX0_chanceOf_1 : decode cX0_chanceOf 1 = .ok (.istore 4, 2) := dk_54 4 (dk_at dksX0_chanceOf_0 1 rfl rfl)
theorem dX0_chanceOf_3 : decode cX0_chanceOf 3 = .ok (.iload 4, 2) := dk_21 4 (dk_at dksX0_chanceOf_0 3 rfl rfl)
theorem dX0_chanceOf_5 : decode cX0_chanceOf 5 = .ok (.bipush 9, 2) := dk_16 9 (dk_at dksX0_chanceOf_0 5 rfl rfl)
theorem dX0_chanceOf_7 : decode cX0_chanceOf 7 = .ok (.if_icmp .ge 27, 3) := dk_162 0 27 (dk_at dksX0_chanceOf_0 7 rfl rfl)
theorem dX0_chanceOf_10 : decode cX0_chanceOf 10 = .ok (.aload_n 0, 1) := dk_42 (dk_at dksX0_chanceOf_0 10 rfl rfl)
theorem dX0_chanceOf_11 : decode cX0_chanceOf 11 = .ok (.getfield 105, 3) := dk_180 0 105 (dk_at dksX0_chanceOf_0 11 rfl rfl)
theorem dX0_chanceOf_14 : decode cX0_chanceOf 14 = .ok (.iload 4, 2) := dk_21 4 (dk_at dksX0_chanceOf_0 14 rfl rfl)
theorem dX0_chanceOf_16 : decode cX0_chanceOf 16 = .ok (.iload 4, 2) := dk_21 4 (dk_at dksX0_chanceOf_0 16 rfl rfl)
theorem dX0_chanceOf_18 : decode cX0_chanceOf 18 = .ok (.iload_n 2, 1) := dk_28 (dk_at dksX0_chanceOf_0 18 rfl rfl)
theorem dX0_chanceOf_19 : decode cX0_chanceOf 19 = .ok (.if_icmp .ne 7, 3) := dk_160 0 7 (dk_at dksX0_chanceOf_0 19 rfl rfl)
theorem dX0_chanceOf_22 : decode cX0_chanceOf 22 = .ok (.lconst 1, 1) := dk_10 (dk_at dksX0_chanceOf_0 22 rfl rfl)
theorem dX0_chanceOf_23 : decode cX0_chanceOf 23 = .ok (.goto 4, 3) := dk_167 0 4 (dk_at dksX0_chanceOf_1 0 rfl rfl)
theorem dX0_chanceOf_26 : decode cX0_chanceOf 26 = .ok (.lconst 0, 1) := dk_9 (dk_at dksX0_chanceOf_1 3 rfl rfl)
theorem dX0_chanceOf_27 : decode cX0_chanceOf 27 = .ok (.lastore, 1) := dk_80 (dk_at dksX0_chanceOf_1 4 rfl rfl)
theorem dX0_chanceOf_28 : decode cX0_chanceOf 28 = .ok (.iinc 4 1, 3) := dk_132 4 1 (dk_at dksX0_chanceOf_1 5 rfl rfl)
theorem dX0_chanceOf_31 : decode cX0_chanceOf 31 = .ok (.goto (-28), 3) := dk_167 255 228 (dk_at dksX0_chanceOf_1 8 rfl rfl)
theorem dX0_chanceOf_34 : decode cX0_chanceOf 34 = .ok (.iconst 1, 1) := dk_4 (dk_at dksX0_chanceOf_1 11 rfl rfl)
theorem dX0_chanceOf_35 : decode cX0_chanceOf 35 = .ok (.istore 4, 2) := dk_54 4 (dk_at dksX0_chanceOf_1 12 rfl rfl)
theorem dX0_chanceOf_37 : decode cX0_chanceOf 37 = .ok (.iload 4, 2) := dk_21 4 (dk_at dksX0_chanceOf_1 14 rfl rfl)
theorem dX0_chanceOf_39 : decode cX0_chanceOf 39 = .ok (.iload_n 3, 1) := dk_29 (dk_at dksX0_chanceOf_1 16 rfl rfl)
theorem dX0_chanceOf_40 : decode cX0_chanceOf 40 = .ok (.if_icmp .gt 117, 3) := dk_163 0 117 (dk_at dksX0_chanceOf_1 17 rfl rfl)
theorem dX0_chanceOf_43 : decode cX0_chanceOf 43 = .ok (.iconst 0, 1) := dk_3 (dk_at dksX0_chanceOf_1 20 rfl rfl)
theorem dX0_chanceOf_44 : decode cX0_chanceOf 44 = .ok (.istore 5, 2) := dk_54 5 (dk_at dksX0_chanceOf_1 21 rfl rfl)
theorem dX0_chanceOf_46 : decode cX0_chanceOf 46 = .ok (.iload 5, 2) := dk_21 5 (dk_at dksX0_chanceOf_2 0 rfl rfl)
theorem dX0_chanceOf_48 : decode cX0_chanceOf 48 = .ok (.bipush 9, 2) := dk_16 9 (dk_at dksX0_chanceOf_2 2 rfl rfl)
theorem dX0_chanceOf_50 : decode cX0_chanceOf 50 = .ok (.if_icmp .ge 101, 3) := dk_162 0 101 (dk_at dksX0_chanceOf_2 4 rfl rfl)
theorem dX0_chanceOf_53 : decode cX0_chanceOf 53 = .ok (.aload_n 0, 1) := dk_42 (dk_at dksX0_chanceOf_2 7 rfl rfl)
theorem dX0_chanceOf_54 : decode cX0_chanceOf 54 = .ok (.getfield 105, 3) := dk_180 0 105 (dk_at dksX0_chanceOf_2 8 rfl rfl)
theorem dX0_chanceOf_57 : decode cX0_chanceOf 57 = .ok (.bipush 9, 2) := dk_16 9 (dk_at dksX0_chanceOf_2 11 rfl rfl)
theorem dX0_chanceOf_59 : decode cX0_chanceOf 59 = .ok (.iload 4, 2) := dk_21 4 (dk_at dksX0_chanceOf_2 13 rfl rfl)
theorem dX0_chanceOf_61 : decode cX0_chanceOf 61 = .ok (.imul, 1) := dk_104 (dk_at dksX0_chanceOf_2 15 rfl rfl)
theorem dX0_chanceOf_62 : decode cX0_chanceOf 62 = .ok (.iload 5, 2) := dk_21 5 (dk_at dksX0_chanceOf_2 16 rfl rfl)
theorem dX0_chanceOf_64 : decode cX0_chanceOf 64 = .ok (.iadd, 1) := dk_96 (dk_at dksX0_chanceOf_2 18 rfl rfl)
theorem dX0_chanceOf_65 : decode cX0_chanceOf 65 = .ok (.iload 5, 2) := dk_21 5 (dk_at dksX0_chanceOf_2 19 rfl rfl)
theorem dX0_chanceOf_67 : decode cX0_chanceOf 67 = .ok (.iload_n 2, 1) := dk_28 (dk_at dksX0_chanceOf_2 21 rfl rfl)
theorem dX0_chanceOf_68 : decode cX0_chanceOf 68 = .ok (.if_icmp .ne 11, 3) := dk_160 0 11 (dk_at dksX0_chanceOf_3 0 rfl rfl)
theorem dX0_chanceOf_71 : decode cX0_chanceOf 71 = .ok (.iload 4, 2) := dk_21 4 (dk_at dksX0_chanceOf_3 3 rfl rfl)
theorem dX0_chanceOf_73 : decode cX0_chanceOf 73 = .ok (.invokestatic 401, 3) := dk_184 1 145 (dk_at dksX0_chanceOf_3 5 rfl rfl)
theorem dX0_chanceOf_76 : decode cX0_chanceOf 76 = .ok (.goto 68, 3) := dk_167 0 68 (dk_at dksX0_chanceOf_3 8 rfl rfl)
theorem dX0_chanceOf_79 : decode cX0_chanceOf 79 = .ok (.aload_n 0, 1) := dk_42 (dk_at dksX0_chanceOf_3 11 rfl rfl)
theorem dX0_chanceOf_80 : decode cX0_chanceOf 80 = .ok (.getfield 17, 3) := dk_180 0 17 (dk_at dksX0_chanceOf_3 12 rfl rfl)
theorem dX0_chanceOf_83 : decode cX0_chanceOf 83 = .ok (.iload 5, 2) := dk_21 5 (dk_at dksX0_chanceOf_3 15 rfl rfl)
theorem dX0_chanceOf_85 : decode cX0_chanceOf 85 = .ok (.i2l, 1) := dk_133 (dk_at dksX0_chanceOf_3 17 rfl rfl)
theorem dX0_chanceOf_86 : decode cX0_chanceOf 86 = .ok (.invokevirtual 293, 3) := dk_182 1 37 (dk_at dksX0_chanceOf_3 18 rfl rfl)
theorem dX0_chanceOf_89 : decode cX0_chanceOf 89 = .ok (.ifCond .eq 54, 3) := dk_153 0 54 (dk_at dksX0_chanceOf_3 21 rfl rfl)
theorem dX0_chanceOf_92 : decode cX0_chanceOf 92 = .ok (.aload_n 0, 1) := dk_42 (dk_at dksX0_chanceOf_4 0 rfl rfl)
theorem dX0_chanceOf_93 : decode cX0_chanceOf 93 = .ok (.getfield 17, 3) := dk_180 0 17 (dk_at dksX0_chanceOf_4 1 rfl rfl)
theorem dX0_chanceOf_96 : decode cX0_chanceOf 96 = .ok (.getfield 404, 3) := dk_180 1 148 (dk_at dksX0_chanceOf_4 4 rfl rfl)
theorem dX0_chanceOf_99 : decode cX0_chanceOf 99 = .ok (.i2l, 1) := dk_133 (dk_at dksX0_chanceOf_4 7 rfl rfl)
theorem dX0_chanceOf_100 : decode cX0_chanceOf 100 = .ok (.aload_n 0, 1) := dk_42 (dk_at dksX0_chanceOf_4 8 rfl rfl)
theorem dX0_chanceOf_101 : decode cX0_chanceOf 101 = .ok (.iload_n 1, 1) := dk_27 (dk_at dksX0_chanceOf_4 9 rfl rfl)
theorem dX0_chanceOf_102 : decode cX0_chanceOf 102 = .ok (.iload 5, 2) := dk_21 5 (dk_at dksX0_chanceOf_4 10 rfl rfl)
theorem dX0_chanceOf_104 : decode cX0_chanceOf 104 = .ok (.iload_n 3, 1) := dk_29 (dk_at dksX0_chanceOf_4 12 rfl rfl)
theorem dX0_chanceOf_105 : decode cX0_chanceOf 105 = .ok (.iload_n 3, 1) := dk_29 (dk_at dksX0_chanceOf_4 13 rfl rfl)
theorem dX0_chanceOf_106 : decode cX0_chanceOf 106 = .ok (.iload 4, 2) := dk_21 4 (dk_at dksX0_chanceOf_4 14 rfl rfl)
theorem dX0_chanceOf_108 : decode cX0_chanceOf 108 = .ok (.isub, 1) := dk_100 (dk_at dksX0_chanceOf_4 16 rfl rfl)
theorem dX0_chanceOf_109 : decode cX0_chanceOf 109 = .ok (.iconst 1, 1) := dk_4 (dk_at dksX0_chanceOf_4 17 rfl rfl)
theorem dX0_chanceOf_110 : decode cX0_chanceOf 110 = .ok (.invokevirtual 407, 3) := dk_182 1 151 (dk_at dksX0_chanceOf_4 18 rfl rfl)
theorem dX0_chanceOf_113 : decode cX0_chanceOf 113 = .ok (.lmul, 1) := dk_105 (dk_at dksX0_chanceOf_4 21 rfl rfl)
theorem dX0_chanceOf_114 : decode cX0_chanceOf 114 = .ok (.bipush 10, 2) := dk_16 10 (dk_at dksX0_chanceOf_4 22 rfl rfl)
theorem dX0_chanceOf_116 : decode cX0_chanceOf 116 = .ok (.aload_n 0, 1) := dk_42 (dk_at dksX0_chanceOf_5 0 rfl rfl)
theorem dX0_chanceOf_117 : decode cX0_chanceOf 117 = .ok (.getfield 17, 3) := dk_180 0 17 (dk_at dksX0_chanceOf_5 1 rfl rfl)
theorem dX0_chanceOf_120 : decode cX0_chanceOf 120 = .ok (.getfield 404, 3) := dk_180 1 148 (dk_at dksX0_chanceOf_5 4 rfl rfl)
theorem dX0_chanceOf_123 : decode cX0_chanceOf 123 = .ok (.isub, 1) := dk_100 (dk_at dksX0_chanceOf_5 7 rfl rfl)
theorem dX0_chanceOf_124 : decode cX0_chanceOf 124 = .ok (.i2l, 1) := dk_133 (dk_at dksX0_chanceOf_5 8 rfl rfl)
theorem dX0_chanceOf_125 : decode cX0_chanceOf 125 = .ok (.aload_n 0, 1) := dk_42 (dk_at dksX0_chanceOf_5 9 rfl rfl)
theorem dX0_chanceOf_126 : decode cX0_chanceOf 126 = .ok (.iload_n 1, 1) := dk_27 (dk_at dksX0_chanceOf_5 10 rfl rfl)
theorem dX0_chanceOf_127 : decode cX0_chanceOf 127 = .ok (.iload 5, 2) := dk_21 5 (dk_at dksX0_chanceOf_5 11 rfl rfl)
theorem dX0_chanceOf_129 : decode cX0_chanceOf 129 = .ok (.iload_n 3, 1) := dk_29 (dk_at dksX0_chanceOf_5 13 rfl rfl)
theorem dX0_chanceOf_130 : decode cX0_chanceOf 130 = .ok (.iload_n 3, 1) := dk_29 (dk_at dksX0_chanceOf_5 14 rfl rfl)
theorem dX0_chanceOf_131 : decode cX0_chanceOf 131 = .ok (.iload 4, 2) := dk_21 4 (dk_at dksX0_chanceOf_5 15 rfl rfl)
theorem dX0_chanceOf_133 : decode cX0_chanceOf 133 = .ok (.isub, 1) := dk_100 (dk_at dksX0_chanceOf_5 17 rfl rfl)
theorem dX0_chanceOf_134 : decode cX0_chanceOf 134 = .ok (.iconst 0, 1) := dk_3 (dk_at dksX0_chanceOf_5 18 rfl rfl)
theorem dX0_chanceOf_135 : decode cX0_chanceOf 135 = .ok (.invokevirtual 407, 3) := dk_182 1 151 (dk_at dksX0_chanceOf_5 19 rfl rfl)
theorem dX0_chanceOf_138 : decode cX0_chanceOf 138 = .ok (.lmul, 1) := dk_105 (dk_at dksX0_chanceOf_5 22 rfl rfl)
theorem dX0_chanceOf_139 : decode cX0_chanceOf 139 = .ok (.ladd, 1) := dk_97 (dk_at dksX0_chanceOf_5 23 rfl rfl)
theorem dX0_chanceOf_140 : decode cX0_chanceOf 140 = .ok (.goto 4, 3) := dk_167 0 4 (dk_at dksX0_chanceOf_6 0 rfl rfl)
theorem dX0_chanceOf_143 : decode cX0_chanceOf 143 = .ok (.lconst 0, 1) := dk_9 (dk_at dksX0_chanceOf_6 3 rfl rfl)
theorem dX0_chanceOf_144 : decode cX0_chanceOf 144 = .ok (.lastore, 1) := dk_80 (dk_at dksX0_chanceOf_6 4 rfl rfl)
theorem dX0_chanceOf_145 : decode cX0_chanceOf 145 = .ok (.iinc 5 1, 3) := dk_132 5 1 (dk_at dksX0_chanceOf_6 5 rfl rfl)
theorem dX0_chanceOf_148 : decode cX0_chanceOf 148 = .ok (.goto (-102), 3) := dk_167 255 154 (dk_at dksX0_chanceOf_6 8 rfl rfl)
theorem dX0_chanceOf_151 : decode cX0_chanceOf 151 = .ok (.iinc 4 1, 3) := dk_132 4 1 (dk_at dksX0_chanceOf_6 11 rfl rfl)
theorem dX0_chanceOf_154 : decode cX0_chanceOf 154 = .ok (.goto (-117), 3) := dk_167 255 139 (dk_at dksX0_chanceOf_6 14 rfl rfl)
theorem dX0_chanceOf_157 : decode cX0_chanceOf 157 = .ok (.aload_n 0, 1) := dk_42 (dk_at dksX0_chanceOf_6 17 rfl rfl)
theorem dX0_chanceOf_158 : decode cX0_chanceOf 158 = .ok (.getfield 105, 3) := dk_180 0 105 (dk_at dksX0_chanceOf_6 18 rfl rfl)
theorem dX0_chanceOf_161 : decode cX0_chanceOf 161 = .ok (.bipush 9, 2) := dk_16 9 (dk_at dksX0_chanceOf_6 21 rfl rfl)
theorem dX0_chanceOf_163 : decode cX0_chanceOf 163 = .ok (.iload_n 3, 1) := dk_29 (dk_at dksX0_chanceOf_6 23 rfl rfl)
theorem dX0_chanceOf_164 : decode cX0_chanceOf 164 = .ok (.imul, 1) := dk_104 (dk_at dksX0_chanceOf_7 0 rfl rfl)
theorem dX0_chanceOf_165 : decode cX0_chanceOf 165 = .ok (.aload_n 0, 1) := dk_42 (dk_at dksX0_chanceOf_7 1 rfl rfl)
theorem dX0_chanceOf_166 : decode cX0_chanceOf 166 = .ok (.getfield 60, 3) := dk_180 0 60 (dk_at dksX0_chanceOf_7 2 rfl rfl)
theorem dX0_chanceOf_169 : decode cX0_chanceOf 169 = .ok (.getfield 173, 3) := dk_180 0 173 (dk_at dksX0_chanceOf_7 5 rfl rfl)
theorem dX0_chanceOf_172 : decode cX0_chanceOf 172 = .ok (.iload_n 1, 1) := dk_27 (dk_at dksX0_chanceOf_7 8 rfl rfl)
theorem dX0_chanceOf_173 : decode cX0_chanceOf 173 = .ok (.iaload, 1) := dk_46 (dk_at dksX0_chanceOf_7 9 rfl rfl)
theorem dX0_chanceOf_174 : decode cX0_chanceOf 174 = .ok (.iadd, 1) := dk_96 (dk_at dksX0_chanceOf_7 10 rfl rfl)
theorem dX0_chanceOf_175 : decode cX0_chanceOf 175 = .ok (.laload, 1) := dk_47 (dk_at dksX0_chanceOf_7 11 rfl rfl)
theorem dX0_chanceOf_176 : decode cX0_chanceOf 176 = .ok (.lreturn, 1) := dk_173 (dk_at dksX0_chanceOf_7 12 rfl rfl)
def dkwX0_tens_0 : List UInt8 := [10, 64, 3, 62, 29, 26, 162, 0, 15, 31, 20, 1, 122, 105, 64, 132, 3, 1, 167, 255, 242, 31, 173]
abbrev dktX0_tens_0 : List UInt8 := dkwX0_tens_0 ++ []
theorem dksX0_tens_0 : cX0_tens.data.toList.drop 0 = dktX0_tens_0 := by decide +kernel
theorem dX0_tens_0 : decode cX0_tens 0 = .ok (.lconst 1, 1) := dk_10 (dk_at dksX0_tens_0 0 rfl rfl)
theorem dX0_tens_1 : decode cX0_tens 1 = .ok (.lstore_n 1, 1) := dk_64 (dk_at dksX0_tens_0 1 rfl rfl)
theorem dX0_tens_2 : decode cX0_tens 2 = .ok (.iconst 0, 1) := dk_3 (dk_at dksX0_tens_0 2 rfl rfl)
theorem dX0_tens_3 : decode cX0_tens 3 = .ok (.istore_n 3, 1) := dk_62 (dk_at dksX0_tens_0 3 rfl rfl)
theorem dX0_tens_4 : decode cX0_tens 4 = .ok (.iload_n 3, 1) := dk_29 (dk_at dksX0_tens_0 4 rfl rfl)
theorem dX0_tens_5 : decode cX0_tens 5 = .ok (.iload_n 0, 1) := dk_26 (dk_at dksX0_tens_0 5 rfl rfl)
theorem dX0_tens_6 : decode cX0_tens 6 = .ok (.if_icmp .ge 15, 3) := dk_162 0 15 (dk_at dksX0_tens_0 6 rfl rfl)
theorem dX0_tens_9 : decode cX0_tens 9 = .ok (.lload_n 1, 1) := dk_31 (dk_at dksX0_tens_0 9 rfl rfl)
theorem dX0_tens_10 : decode cX0_tens 10 = .ok (.ldc2_w 378, 3) := dk_20 1 122 (dk_at dksX0_tens_0 10 rfl rfl)
theorem dX0_tens_13 : decode cX0_tens 13 = .ok (.lmul, 1) := dk_105 (dk_at dksX0_tens_0 13 rfl rfl)
theorem dX0_tens_14 : decode cX0_tens 14 = .ok (.lstore_n 1, 1) := dk_64 (dk_at dksX0_tens_0 14 rfl rfl)
theorem dX0_tens_15 : decode cX0_tens 15 = .ok (.iinc 3 1, 3) := dk_132 3 1 (dk_at dksX0_tens_0 15 rfl rfl)
theorem dX0_tens_18 : decode cX0_tens 18 = .ok (.goto (-14), 3) := dk_167 255 242 (dk_at dksX0_tens_0 18 rfl rfl)
theorem dX0_tens_21 : decode cX0_tens 21 = .ok (.lload_n 1, 1) := dk_31 (dk_at dksX0_tens_0 21 rfl rfl)
theorem dX0_tens_22 : decode cX0_tens 22 = .ok (.lreturn, 1) := dk_173 (dk_at dksX0_tens_0 22 rfl rfl)
def dkwX0_likeliest_2 : List UInt8 := [100, 4, 100, 104, 21, 9, 96, 47, 184, 1, 141, 55, 6, 132, 8, 1, 167, 255, 198, 22, 6, 173]
abbrev dktX0_likeliest_2 : List UInt8 := dkwX0_likeliest_2 ++ []
def dkwX0_likeliest_1 : List UInt8 := [21, 5, 182, 1, 30, 54, 9, 21, 9, 2, 159, 0, 27, 22, 6, 42, 180, 0, 105, 16, 9, 29, 21, 4]
abbrev dktX0_likeliest_1 : List UInt8 := dkwX0_likeliest_1 ++ dktX0_likeliest_2
def dkwX0_likeliest_0 : List UInt8 := [9, 55, 6, 3, 54, 8, 21, 8, 16, 7, 162, 0, 57, 42, 27, 21, 8, 28, 42, 21, 4, 182, 1, 24]
abbrev dktX0_likeliest_0 : List UInt8 := dkwX0_likeliest_0 ++ dktX0_likeliest_1
theorem dksX0_likeliest_0 : cX0_likeliest.data.toList.drop 0 = dktX0_likeliest_0 := by decide +kernel
theorem dksX0_likeliest_1 : cX0_likeliest.data.toList.drop 24 = dktX0_likeliest_1 := dk_seg dksX0_likeliest_0 24 rfl rfl
theorem dksX0_likeliest_2 : cX0_likeliest.data.toList.drop 48 = dktX0_likeliest_2 := dk_seg dksX0_likeliest_1 24 rfl rfl
theorem dX0_likeliest_0 : decode cX0_likeliest 0 = .ok (.lconst 0, 1) := dk_9 (dk_at dksX0_likeliest_0 0 rfl rfl)
theorem dX0_likeliest_1 : decode cX0_likeliest 1 = .ok (.lstore 6, 2) := dk_55 6 (dk_at dksX0_likeliest_0 1 rfl rfl)
theorem dX0_likeliest_3 : decode cX0_likeliest 3 = .ok (.iconst 0, 1) := dk_3 (dk_at dksX0_likeliest_0 3 rfl rfl)
theorem dX0_likeliest_4 : decode cX0_likeliest 4 = .ok (.istore 8, 2) := dk_54 8 (dk_at dksX0_likeliest_0 4 rfl rfl)
theorem dX0_likeliest_6 : decode cX0_likeliest 6 = .ok (.iload 8, 2) := dk_21 8 (dk_at dksX0_likeliest_0 6 rfl rfl)
theorem dX0_likeliest_8 : decode cX0_likeliest 8 = .ok (.bipush 7, 2) := dk_16 7 (dk_at dksX0_likeliest_0 8 rfl rfl)
theorem dX0_likeliest_10 : decode cX0_likeliest 10 = .ok (.if_icmp .ge 57, 3) := dk_162 0 57 (dk_at dksX0_likeliest_0 10 rfl rfl)
theorem dX0_likeliest_13 : decode cX0_likeliest 13 = .ok (.aload_n 0, 1) := dk_42 (dk_at dksX0_likeliest_0 13 rfl rfl)
theorem dX0_likeliest_14 : decode cX0_likeliest 14 = .ok (.iload_n 1, 1) := dk_27 (dk_at dksX0_likeliest_0 14 rfl rfl)
theorem dX0_likeliest_15 : decode cX0_likeliest 15 = .ok (.iload 8, 2) := dk_21 8 (dk_at dksX0_likeliest_0 15 rfl rfl)
theorem dX0_likeliest_17 : decode cX0_likeliest 17 = .ok (.iload_n 2, 1) := dk_28 (dk_at dksX0_likeliest_0 17 rfl rfl)
theorem dX0_likeliest_18 : decode cX0_likeliest 18 = .ok (.aload_n 0, 1) := dk_42 (dk_at dksX0_likeliest_0 18 rfl rfl)
theorem dX0_likeliest_19 : decode cX0_likeliest 19 = .ok (.iload 4, 2) := dk_21 4 (dk_at dksX0_likeliest_0 19 rfl rfl)
theorem dX0_likeliest_21 : decode cX0_likeliest 21 = .ok (.invokevirtual 280, 3) := dk_182 1 24 (dk_at dksX0_likeliest_0 21 rfl rfl)
theorem dX0_likeliest_24 : decode cX0_likeliest 24 = .ok (.iload 5, 2) := dk_21 5 (dk_at dksX0_likeliest_1 0 rfl rfl)
theorem dX0_likeliest_26 : decode cX0_likeliest 26 = .ok (.invokevirtual 286, 3) := dk_182 1 30 (dk_at dksX0_likeliest_1 2 rfl rfl)
theorem dX0_likeliest_29 : decode cX0_likeliest 29 = .ok (.istore 9, 2) := dk_54 9 (dk_at dksX0_likeliest_1 5 rfl rfl)
theorem dX0_likeliest_31 : decode cX0_likeliest 31 = .ok (.iload 9, 2) := dk_21 9 (dk_at dksX0_likeliest_1 7 rfl rfl)
theorem dX0_likeliest_33 : decode cX0_likeliest 33 = .ok (.iconst (-1), 1) := dk_2 (dk_at dksX0_likeliest_1 9 rfl rfl)
theorem dX0_likeliest_34 : decode cX0_likeliest 34 = .ok (.if_icmp .eq 27, 3) := dk_159 0 27 (dk_at dksX0_likeliest_1 10 rfl rfl)
theorem dX0_likeliest_37 : decode cX0_likeliest 37 = .ok (.lload 6, 2) := dk_22 6 (dk_at dksX0_likeliest_1 13 rfl rfl)
theorem dX0_likeliest_39 : decode cX0_likeliest 39 = .ok (.aload_n 0, 1) := dk_42 (dk_at dksX0_likeliest_1 15 rfl rfl)
theorem dX0_likeliest_40 : decode cX0_likeliest 40 = .ok (.getfield 105, 3) := dk_180 0 105 (dk_at dksX0_likeliest_1 16 rfl rfl)
theorem dX0_likeliest_43 : decode cX0_likeliest 43 = .ok (.bipush 9, 2) := dk_16 9 (dk_at dksX0_likeliest_1 19 rfl rfl)
theorem dX0_likeliest_45 : decode cX0_likeliest 45 = .ok (.iload_n 3, 1) := dk_29 (dk_at dksX0_likeliest_1 21 rfl rfl)
theorem dX0_likeliest_46 : decode cX0_likeliest 46 = .ok (.iload 4, 2) := dk_21 4 (dk_at dksX0_likeliest_1 22 rfl rfl)
theorem dX0_likeliest_48 : decode cX0_likeliest 48 = .ok (.isub, 1) := dk_100 (dk_at dksX0_likeliest_2 0 rfl rfl)
theorem dX0_likeliest_49 : decode cX0_likeliest 49 = .ok (.iconst 1, 1) := dk_4 (dk_at dksX0_likeliest_2 1 rfl rfl)
theorem dX0_likeliest_50 : decode cX0_likeliest 50 = .ok (.isub, 1) := dk_100 (dk_at dksX0_likeliest_2 2 rfl rfl)
theorem dX0_likeliest_51 : decode cX0_likeliest 51 = .ok (.imul, 1) := dk_104 (dk_at dksX0_likeliest_2 3 rfl rfl)
theorem dX0_likeliest_52 : decode cX0_likeliest 52 = .ok (.iload 9, 2) := dk_21 9 (dk_at dksX0_likeliest_2 4 rfl rfl)
theorem dX0_likeliest_54 : decode cX0_likeliest 54 = .ok (.iadd, 1) := dk_96 (dk_at dksX0_likeliest_2 6 rfl rfl)
theorem dX0_likeliest_55 : decode cX0_likeliest 55 = .ok (.laload, 1) := dk_47 (dk_at dksX0_likeliest_2 7 rfl rfl)
theorem dX0_likeliest_56 : decode cX0_likeliest 56 = .ok (.invokestatic 397, 3) := dk_184 1 141 (dk_at dksX0_likeliest_2 8 rfl rfl)
theorem dX0_likeliest_59 : decode cX0_likeliest 59 = .ok (.lstore 6, 2) := dk_55 6 (dk_at dksX0_likeliest_2 11 rfl rfl)
theorem dX0_likeliest_61 : decode cX0_likeliest 61 = .ok (.iinc 8 1, 3) := dk_132 8 1 (dk_at dksX0_likeliest_2 13 rfl rfl)
theorem dX0_likeliest_64 : decode cX0_likeliest 64 = .ok (.goto (-58), 3) := dk_167 255 198 (dk_at dksX0_likeliest_2 16 rfl rfl)
theorem dX0_likeliest_67 : decode cX0_likeliest 67 = .ok (.lload 6, 2) := dk_22 6 (dk_at dksX0_likeliest_2 19 rfl rfl)
theorem dX0_likeliest_69 : decode cX0_likeliest 69 = .ok (.lreturn, 1) := dk_173 (dk_at dksX0_likeliest_2 21 rfl rfl)
def dkwX0_common_0 : List UInt8 := [32, 9, 148, 154, 0, 7, 30, 167, 0, 10, 32, 30, 32, 113, 184, 1, 155, 173]
abbrev dktX0_common_0 : List UInt8 := dkwX0_common_0 ++ []
theorem dksX0_common_0 : cX0_common.data.toList.drop 0 = dktX0_common_0 := by decide +kernel
theorem dX0_common_0 : decode cX0_common 0 = .ok (.lload_n 2, 1) := dk_32 (dk_at dksX0_common_0 0 rfl rfl)
theorem dX0_common_1 : decode cX0_common 1 = .ok (.lconst 0, 1) := dk_9 (dk_at dksX0_common_0 1 rfl rfl)
theorem dX0_common_2 : decode cX0_common 2 = .ok (.lcmp, 1) := dk_148 (dk_at dksX0_common_0 2 rfl rfl)
theorem dX0_common_3 : decode cX0_common 3 = .ok (.ifCond .ne 7, 3) := dk_154 0 7 (dk_at dksX0_common_0 3 rfl rfl)
theorem dX0_common_6 : decode cX0_common 6 = .ok (.lload_n 0, 1) := dk_30 (dk_at dksX0_common_0 6 rfl rfl)
theorem dX0_common_7 : decode cX0_common 7 = .ok (.goto 10, 3) := dk_167 0 10 (dk_at dksX0_common_0 7 rfl rfl)
theorem dX0_common_10 : decode cX0_common 10 = .ok (.lload_n 2, 1) := dk_32 (dk_at dksX0_common_0 10 rfl rfl)
theorem dX0_common_11 : decode cX0_common 11 = .ok (.lload_n 0, 1) := dk_30 (dk_at dksX0_common_0 11 rfl rfl)
theorem dX0_common_12 : decode cX0_common 12 = .ok (.lload_n 2, 1) := dk_32 (dk_at dksX0_common_0 12 rfl rfl)
theorem dX0_common_13 : decode cX0_common 13 = .ok (.lrem, 1) := dk_113 (dk_at dksX0_common_0 13 rfl rfl)
theorem dX0_common_14 : decode cX0_common 14 = .ok (.invokestatic 411, 3) := dk_184 1 155 (dk_at dksX0_common_0 14 rfl rfl)
theorem dX0_common_17 : decode cX0_common 17 = .ok (.lreturn, 1) := dk_173 (dk_at dksX0_common_0 17 rfl rfl)
def dkwX0_likely_3 : List UInt8 := [167, 255, 219, 2, 172]
abbrev dktX0_likely_3 : List UInt8 := dkwX0_likely_3 ++ []
def dkwX0_likely_2 : List UInt8 := [21, 4, 182, 1, 160, 105, 29, 133, 21, 4, 184, 1, 145, 105, 148, 155, 0, 6, 21, 4, 172, 132, 4, 1]
abbrev dktX0_likely_2 : List UInt8 := dkwX0_likely_2 ++ dktX0_likely_3
def dkwX0_likely_1 : List UInt8 := [16, 253, 172, 42, 182, 1, 50, 3, 54, 4, 21, 4, 16, 9, 163, 0, 36, 20, 1, 164, 42, 27, 28]
abbrev dktX0_likely_1 : List UInt8 := dkwX0_likely_1 ++ dktX0_likely_2
def dkwX0_likely_0 : List UInt8 := [42, 27, 28, 182, 1, 47, 154, 0, 6, 16, 254, 172, 29, 133, 9, 20, 1, 164, 184, 0, 132, 154, 0, 6]
abbrev dktX0_likely_0 : List UInt8 := dkwX0_likely_0 ++ dktX0_likely_1
theorem dksX0_likely_0 : cX0_likely.data.toList.drop 0 = dktX0_likely_0 := by decide +kernel
theorem dksX0_likely_1 : cX0_likely.data.toList.drop 24 = dktX0_likely_1 := dk_seg dksX0_likely_0 24 rfl rfl
theorem dksX0_likely_2 : cX0_likely.data.toList.drop 47 = dktX0_likely_2 := dk_seg dksX0_likely_1 23 rfl rfl
theorem dksX0_likely_3 : cX0_likely.data.toList.drop 71 = dktX0_likely_3 := dk_seg dksX0_likely_2 24 rfl rfl
theorem dX0_likely_0 : decode cX0_likely 0 = .ok (.aload_n 0, 1) := dk_42 (dk_at dksX0_likely_0 0 rfl rfl)
theorem dX0_likely_1 : decode cX0_likely 1 = .ok (.iload_n 1, 1) := dk_27 (dk_at dksX0_likely_0 1 rfl rfl)
theorem dX0_likely_2 : decode cX0_likely 2 = .ok (.iload_n 2, 1) := dk_28 (dk_at dksX0_likely_0 2 rfl rfl)
theorem dX0_likely_3 : decode cX0_likely 3 = .ok (.invokevirtual 303, 3) := dk_182 1 47 (dk_at dksX0_likely_0 3 rfl rfl)
theorem dX0_likely_6 : decode cX0_likely 6 = .ok (.ifCond .ne 6, 3) := dk_154 0 6 (dk_at dksX0_likely_0 6 rfl rfl)
theorem dX0_likely_9 : decode cX0_likely 9 = .ok (.bipush (-2), 2) := dk_16 254 (dk_at dksX0_likely_0 9 rfl rfl)
theorem dX0_likely_11 : decode cX0_likely 11 = .ok (.ireturn, 1) := dk_172 (dk_at dksX0_likely_0 11 rfl rfl)
theorem dX0_likely_12 : decode cX0_likely 12 = .ok (.iload_n 3, 1) := dk_29 (dk_at dksX0_likely_0 12 rfl rfl)
theorem dX0_likely_13 : decode cX0_likely 13 = .ok (.i2l, 1) := dk_133 (dk_at dksX0_likely_0 13 rfl rfl)
theorem dX0_likely_14 : decode cX0_likely 14 = .ok (.lconst 0, 1) := dk_9 (dk_at dksX0_likely_0 14 rfl rfl)
theorem dX0_likely_15 : decode cX0_likely 15 = .ok (.ldc2_w 420, 3) := dk_20 1 164 (dk_at dksX0_likely_0 15 rfl rfl)
theorem dX0_likely_18 : decode cX0_likely 18 = .ok (.invokestatic 132, 3) := dk_184 0 132 (dk_at dksX0_likely_0 18 rfl rfl)
theorem dX0_likely_21 : decode cX0_likely 21 = .ok (.ifCond .ne 6, 3) := dk_154 0 6 (dk_at dksX0_likely_0 21 rfl rfl)
theorem dX0_likely_24 : decode cX0_likely 24 = .ok (.bipush (-3), 2) := dk_16 253 (dk_at dksX0_likely_1 0 rfl rfl)
theorem dX0_likely_26 : decode cX0_likely 26 = .ok (.ireturn, 1) := dk_172 (dk_at dksX0_likely_1 2 rfl rfl)
theorem dX0_likely_27 : decode cX0_likely 27 = .ok (.aload_n 0, 1) := dk_42 (dk_at dksX0_likely_1 3 rfl rfl)
theorem dX0_likely_28 : decode cX0_likely 28 = .ok (.invokevirtual 306, 3) := dk_182 1 50 (dk_at dksX0_likely_1 4 rfl rfl)
theorem dX0_likely_31 : decode cX0_likely 31 = .ok (.iconst 0, 1) := dk_3 (dk_at dksX0_likely_1 7 rfl rfl)
theorem dX0_likely_32 : decode cX0_likely 32 = .ok (.istore 4, 2) := dk_54 4 (dk_at dksX0_likely_1 8 rfl rfl)
theorem dX0_likely_34 : decode cX0_likely 34 = .ok (.iload 4, 2) := dk_21 4 (dk_at dksX0_likely_1 10 rfl rfl)
theorem dX0_likely_36 : decode cX0_likely 36 = .ok (.bipush 9, 2) := dk_16 9 (dk_at dksX0_likely_1 12 rfl rfl)
theorem dX0_likely_38 : decode cX0_likely 38 = .ok (.if_icmp .gt 36, 3) := dk_163 0 36 (dk_at dksX0_likely_1 14 rfl rfl)
theorem dX0_likely_41 : decode cX0_likely 41 = .ok (.ldc2_w 420, 3) := dk_20 1 164 (dk_at dksX0_likely_1 17 rfl rfl)
theorem dX0_likely_44 : decode cX0_likely 44 = .ok (.aload_n 0, 1) := dk_42 (dk_at dksX0_likely_1 20 rfl rfl)
theorem dX0_likely_45 : decode cX0_likely 45 = .ok (.iload_n 1, 1) := dk_27 (dk_at dksX0_likely_1 21 rfl rfl)
theorem dX0_likely_46 : decode cX0_likely 46 = .ok (.iload_n 2, 1) := dk_28 (dk_at dksX0_likely_1 22 rfl rfl)
theorem dX0_likely_47 : decode cX0_likely 47 = .ok (.iload 4, 2) := dk_21 4 (dk_at dksX0_likely_2 0 rfl rfl)
theorem dX0_likely_49 : decode cX0_likely 49 = .ok (.invokevirtual 416, 3) := dk_182 1 160 (dk_at dksX0_likely_2 2 rfl rfl)
theorem dX0_likely_52 : decode cX0_likely 52 = .ok (.lmul, 1) := dk_105 (dk_at dksX0_likely_2 5 rfl rfl)
theorem dX0_likely_53 : decode cX0_likely 53 = .ok (.iload_n 3, 1) := dk_29 (dk_at dksX0_likely_2 6 rfl rfl)
theorem dX0_likely_54 : decode cX0_likely 54 = .ok (.i2l, 1) := dk_133 (dk_at dksX0_likely_2 7 rfl rfl)
theorem dX0_likely_55 : decode cX0_likely 55 = .ok (.iload 4, 2) := dk_21 4 (dk_at dksX0_likely_2 8 rfl rfl)
theorem dX0_likely_57 : decode cX0_likely 57 = .ok (.invokestatic 401, 3) := dk_184 1 145 (dk_at dksX0_likely_2 10 rfl rfl)
theorem dX0_likely_60 : decode cX0_likely 60 = .ok (.lmul, 1) := dk_105 (dk_at dksX0_likely_2 13 rfl rfl)
theorem dX0_likely_61 : decode cX0_likely 61 = .ok (.lcmp, 1) := dk_148 (dk_at dksX0_likely_2 14 rfl rfl)
theorem dX0_likely_62 : decode cX0_likely 62 = .ok (.ifCond .lt 6, 3) := dk_155 0 6 (dk_at dksX0_likely_2 15 rfl rfl)
theorem dX0_likely_65 : decode cX0_likely 65 = .ok (.iload 4, 2) := dk_21 4 (dk_at dksX0_likely_2 18 rfl rfl)
theorem dX0_likely_67 : decode cX0_likely 67 = .ok (.ireturn, 1) := dk_172 (dk_at dksX0_likely_2 20 rfl rfl)
theorem dX0_likely_68 : decode cX0_likely 68 = .ok (.iinc 4 1, 3) := dk_132 4 1 (dk_at dksX0_likely_2 21 rfl rfl)
theorem dX0_likely_71 : decode cX0_likely 71 = .ok (.goto (-37), 3) := dk_167 255 219 (dk_at dksX0_likely_3 0 rfl rfl)
theorem dX0_likely_74 : decode cX0_likely 74 = .ok (.iconst (-1), 1) := dk_2 (dk_at dksX0_likely_3 3 rfl rfl)
theorem dX0_likely_75 : decode cX0_likely 75 = .ok (.ireturn, 1) := dk_172 (dk_at dksX0_likely_3 4 rfl rfl)
def dkwX0_numbers_2 : List UInt8 := [167, 0, 5, 16, 253, 172]
abbrev dktX0_numbers_2 : List UInt8 := dkwX0_numbers_2 ++ []
def dkwX0_numbers_1 : List UInt8 := [16, 40, 164, 0, 6, 16, 253, 172, 42, 180, 0, 111, 27, 50, 28, 29, 182, 1, 173, 153, 0, 7, 3]
abbrev dktX0_numbers_1 : List UInt8 := dkwX0_numbers_1 ++ dktX0_numbers_2
def dkwX0_numbers_0 : List UInt8 := [27, 184, 1, 166, 153, 0, 15, 28, 133, 9, 20, 0, 252, 184, 0, 132, 154, 0, 6, 16, 254, 172, 29]
abbrev dktX0_numbers_0 : List UInt8 := dkwX0_numbers_0 ++ dktX0_numbers_1
theorem dksX0_numbers_0 : cX0_numbers.data.toList.drop 0 = dktX0_numbers_0 := by decide +kernel
theorem dksX0_numbers_1 : cX0_numbers.data.toList.drop 23 = dktX0_numbers_1 := dk_seg dksX0_numbers_0 23 rfl rfl
theorem dksX0_numbers_2 : cX0_numbers.data.toList.drop 46 = dktX0_numbers_2 := dk_seg dksX0_numbers_1 23 rfl rfl
theorem dX0_numbers_0 : decode cX0_numbers 0 = .ok (.iload_n 1, 1) := dk_27 (dk_at dksX0_numbers_0 0 rfl rfl)
theorem dX0_numbers_1 : decode cX0_numbers 1 = .ok (.invokestatic 422, 3) := dk_184 1 166 (dk_at dksX0_numbers_0 1 rfl rfl)
theorem dX0_numbers_4 : decode cX0_numbers 4 = .ok (.ifCond .eq 15, 3) := dk_153 0 15 (dk_at dksX0_numbers_0 4 rfl rfl)
theorem dX0_numbers_7 : decode cX0_numbers 7 = .ok (.iload_n 2, 1) := dk_28 (dk_at dksX0_numbers_0 7 rfl rfl)
theorem dX0_numbers_8 : decode cX0_numbers 8 = .ok (.i2l, 1) := dk_133 (dk_at dksX0_numbers_0 8 rfl rfl)
theorem dX0_numbers_9 : decode cX0_numbers 9 = .ok (.lconst 0, 1) := dk_9 (dk_at dksX0_numbers_0 9 rfl rfl)
theorem dX0_numbers_10 : decode cX0_numbers 10 = .ok (.ldc2_w 252, 3) := dk_20 0 252 (dk_at dksX0_numbers_0 10 rfl rfl)
theorem dX0_numbers_13 : decode cX0_numbers 13 = .ok (.invokestatic 132, 3) := dk_184 0 132 (dk_at dksX0_numbers_0 13 rfl rfl)
theorem dX0_numbers_16 : decode cX0_numbers 16 = .ok (.ifCond .ne 6, 3) := dk_154 0 6 (dk_at dksX0_numbers_0 16 rfl rfl)
theorem dX0_numbers_19 : decode cX0_numbers 19 = .ok (.bipush (-2), 2) := dk_16 254 (dk_at dksX0_numbers_0 19 rfl rfl)
theorem dX0_numbers_21 : decode cX0_numbers 21 = .ok (.ireturn, 1) := dk_172 (dk_at dksX0_numbers_0 21 rfl rfl)
theorem dX0_numbers_22 : decode cX0_numbers 22 = .ok (.iload_n 3, 1) := dk_29 (dk_at dksX0_numbers_0 22 rfl rfl)
theorem dX0_numbers_23 : decode cX0_numbers 23 = .ok (.bipush 40, 2) := dk_16 40 (dk_at dksX0_numbers_1 0 rfl rfl)
theorem dX0_numbers_25 : decode cX0_numbers 25 = .ok (.if_icmp .le 6, 3) := dk_164 0 6 (dk_at dksX0_numbers_1 2 rfl rfl)
theorem dX0_numbers_28 : decode cX0_numbers 28 = .ok (.bipush (-3), 2) := dk_16 253 (dk_at dksX0_numbers_1 5 rfl rfl)
theorem dX0_numbers_30 : decode cX0_numbers 30 = .ok (.ireturn, 1) := dk_172 (dk_at dksX0_numbers_1 7 rfl rfl)
theorem dX0_numbers_31 : decode cX0_numbers 31 = .ok (.aload_n 0, 1) := dk_42 (dk_at dksX0_numbers_1 8 rfl rfl)
theorem dX0_numbers_32 : decode cX0_numbers 32 = .ok (.getfield 111, 3) := dk_180 0 111 (dk_at dksX0_numbers_1 9 rfl rfl)
theorem dX0_numbers_35 : decode cX0_numbers 35 = .ok (.iload_n 1, 1) := dk_27 (dk_at dksX0_numbers_1 12 rfl rfl)
theorem dX0_numbers_36 : decode cX0_numbers 36 = .ok (.aaload, 1) := dk_50 (dk_at dksX0_numbers_1 13 rfl rfl)
theorem dX0_numbers_37 : decode cX0_numbers 37 = .ok (.iload_n 2, 1) := dk_28 (dk_at dksX0_numbers_1 14 rfl rfl)
theorem dX0_numbers_38 : decode cX0_numbers 38 = .ok (.iload_n 3, 1) := dk_29 (dk_at dksX0_numbers_1 15 rfl rfl)
theorem dX0_numbers_39 : decode cX0_numbers 39 = .ok (.invokevirtual 429, 3) := dk_182 1 173 (dk_at dksX0_numbers_1 16 rfl rfl)
theorem dX0_numbers_42 : decode cX0_numbers 42 = .ok (.ifCond .eq 7, 3) := dk_153 0 7 (dk_at dksX0_numbers_1 19 rfl rfl)
theorem dX0_numbers_45 : decode cX0_numbers 45 = .ok (.iconst 0, 1) := dk_3 (dk_at dksX0_numbers_1 22 rfl rfl)
theorem dX0_numbers_46 : decode cX0_numbers 46 = .ok (.goto 5, 3) := dk_167 0 5 (dk_at dksX0_numbers_2 0 rfl rfl)
theorem dX0_numbers_49 : decode cX0_numbers 49 = .ok (.bipush (-3), 2) := dk_16 253 (dk_at dksX0_numbers_2 3 rfl rfl)
theorem dX0_numbers_51 : decode cX0_numbers 51 = .ok (.ireturn, 1) := dk_172 (dk_at dksX0_numbers_2 5 rfl rfl)
def dkwX0_write_1 : List UInt8 := [180, 0, 111, 27, 50, 28, 182, 0, 241, 173, 58, 5, 20, 1, 180, 173, 58, 5, 20, 1, 184, 173]
abbrev dktX0_write_1 : List UInt8 := dkwX0_write_1 ++ []
def dkwX0_write_0 : List UInt8 := [27, 184, 1, 166, 154, 0, 7, 20, 1, 63, 173, 42, 180, 0, 111, 27, 50, 28, 33, 182, 1, 175, 42]
abbrev dktX0_write_0 : List UInt8 := dkwX0_write_0 ++ dktX0_write_1
theorem dksX0_write_0 : cX0_write.data.toList.drop 0 = dktX0_write_0 := by decide +kernel
theorem dksX0_write_1 : cX0_write.data.toList.drop 23 = dktX0_write_1 := dk_seg dksX0_write_0 23 rfl rfl
theorem dX0_write_0 : decode cX0_write 0 = .ok (.iload_n 1, 1) := dk_27 (dk_at dksX0_write_0 0 rfl rfl)
theorem dX0_write_1 : decode cX0_write 1 = .ok (.invokestatic 422, 3) := dk_184 1 166 (dk_at dksX0_write_0 1 rfl rfl)
theorem dX0_write_4 : decode cX0_write 4 = .ok (.ifCond .ne 7, 3) := dk_154 0 7 (dk_at dksX0_write_0 4 rfl rfl)
theorem dX0_write_7 : decode cX0_write 7 = .ok (.ldc2_w 319, 3) := dk_20 1 63 (dk_at dksX0_write_0 7 rfl rfl)
theorem dX0_write_10 : decode cX0_write 10 = .ok (.lreturn, 1) := dk_173 (dk_at dksX0_write_0 10 rfl rfl)
theorem dX0_write_11 : decode cX0_write 11 = .ok (.aload_n 0, 1) := dk_42 (dk_at dksX0_write_0 11 rfl rfl)
theorem dX0_write_12 : decode cX0_write 12 = .ok (.getfield 111, 3) := dk_180 0 111 (dk_at dksX0_write_0 12 rfl rfl)
theorem dX0_write_15 : decode cX0_write 15 = .ok (.iload_n 1, 1) := dk_27 (dk_at dksX0_write_0 15 rfl rfl)
theorem dX0_write_16 : decode cX0_write 16 = .ok (.aaload, 1) := dk_50 (dk_at dksX0_write_0 16 rfl rfl)
theorem dX0_write_17 : decode cX0_write 17 = .ok (.iload_n 2, 1) := dk_28 (dk_at dksX0_write_0 17 rfl rfl)
theorem dX0_write_18 : decode cX0_write 18 = .ok (.lload_n 3, 1) := dk_33 (dk_at dksX0_write_0 18 rfl rfl)
theorem dX0_write_19 : decode cX0_write 19 = .ok (.invokevirtual 431, 3) := dk_182 1 175 (dk_at dksX0_write_0 19 rfl rfl)
theorem dX0_write_22 : decode cX0_write 22 = .ok (.aload_n 0, 1) := dk_42 (dk_at dksX0_write_0 22 rfl rfl)
theorem dX0_write_23 : decode cX0_write 23 = .ok (.getfield 111, 3) := dk_180 0 111 (dk_at dksX0_write_1 0 rfl rfl)
theorem dX0_write_26 : decode cX0_write 26 = .ok (.iload_n 1, 1) := dk_27 (dk_at dksX0_write_1 3 rfl rfl)
theorem dX0_write_27 : decode cX0_write 27 = .ok (.aaload, 1) := dk_50 (dk_at dksX0_write_1 4 rfl rfl)
theorem dX0_write_28 : decode cX0_write 28 = .ok (.iload_n 2, 1) := dk_28 (dk_at dksX0_write_1 5 rfl rfl)
theorem dX0_write_29 : decode cX0_write 29 = .ok (.invokevirtual 241, 3) := dk_182 0 241 (dk_at dksX0_write_1 6 rfl rfl)
theorem dX0_write_32 : decode cX0_write 32 = .ok (.lreturn, 1) := dk_173 (dk_at dksX0_write_1 9 rfl rfl)
theorem dX0_write_33 : decode cX0_write 33 = .ok (.astore 5, 2) := dk_58 5 (dk_at dksX0_write_1 10 rfl rfl)
theorem dX0_write_35 : decode cX0_write 35 = .ok (.ldc2_w 436, 3) := dk_20 1 180 (dk_at dksX0_write_1 12 rfl rfl)
theorem dX0_write_38 : decode cX0_write 38 = .ok (.lreturn, 1) := dk_173 (dk_at dksX0_write_1 15 rfl rfl)
theorem dX0_write_39 : decode cX0_write 39 = .ok (.astore 5, 2) := dk_58 5 (dk_at dksX0_write_1 16 rfl rfl)
theorem dX0_write_41 : decode cX0_write 41 = .ok (.ldc2_w 440, 3) := dk_20 1 184 (dk_at dksX0_write_1 18 rfl rfl)
theorem dX0_write_44 : decode cX0_write 44 = .ok (.lreturn, 1) := dk_173 (dk_at dksX0_write_1 21 rfl rfl)
def dkwX0_lists_5 : List UInt8 := [167, 255, 207, 21, 6, 172]
abbrev dktX0_lists_5 : List UInt8 := dkwX0_lists_5 ++ []
def dkwX0_lists_4 : List UInt8 := [180, 0, 92, 21, 7, 5, 108, 46, 96, 133, 167, 0, 6, 20, 0, 220, 182, 1, 175, 132, 7, 1]
abbrev dktX0_lists_4 : List UInt8 := dkwX0_lists_4 ++ dktX0_lists_5
def dkwX0_lists_3 : List UInt8 := [162, 0, 48, 42, 180, 0, 111, 27, 50, 21, 7, 21, 7, 5, 112, 154, 0, 21, 16, 10, 28, 104, 42]
abbrev dktX0_lists_3 : List UInt8 := dkwX0_lists_3 ++ dktX0_lists_4
def dkwX0_lists_2 : List UInt8 := [21, 5, 104, 42, 180, 0, 111, 27, 50, 182, 0, 239, 184, 0, 206, 54, 6, 3, 54, 7, 21, 7, 21, 6]
abbrev dktX0_lists_2 : List UInt8 := dkwX0_lists_2 ++ dktX0_lists_3
def dkwX0_lists_1 : List UInt8 := [153, 0, 6, 21, 4, 172, 42, 28, 29, 182, 1, 60, 54, 5, 21, 5, 2, 160, 0, 6, 16, 251, 172, 5]
abbrev dktX0_lists_1 : List UInt8 := dkwX0_lists_1 ++ dktX0_lists_2
def dkwX0_lists_0 : List UInt8 := [42, 28, 29, 182, 1, 47, 153, 0, 11, 42, 27, 182, 0, 254, 167, 0, 5, 16, 254, 54, 4, 21, 4]
abbrev dktX0_lists_0 : List UInt8 := dkwX0_lists_0 ++ dktX0_lists_1
theorem dksX0_lists_0 : cX0_lists.data.toList.drop 0 = dktX0_lists_0 := by decide +kernel
theorem dksX0_lists_1 : cX0_lists.data.toList.drop 23 = dktX0_lists_1 := dk_seg dksX0_lists_0 23 rfl rfl
theorem dksX0_lists_2 : cX0_lists.data.toList.drop 47 = dktX0_lists_2 := dk_seg dksX0_lists_1 24 rfl rfl
theorem dksX0_lists_3 : cX0_lists.data.toList.drop 71 = dktX0_lists_3 := dk_seg dksX0_lists_2 24 rfl rfl
theorem dksX0_lists_4 : cX0_lists.data.toList.drop 94 = dktX0_lists_4 := dk_seg dksX0_lists_3 23 rfl rfl
theorem dksX0_lists_5 : cX0_lists.data.toList.drop 116 = dktX0_lists_5 := dk_seg dksX0_lists_4 22 rfl rfl
theorem dX0_lists_0 : decode cX0_lists 0 = .ok (.aload_n 0, 1) := dk_42 (dk_at dksX0_lists_0 0 rfl rfl)
theorem dX0_lists_1 : decode cX0_lists 1 = .ok (.iload_n 2, 1) := dk_28 (dk_at dksX0_lists_0 1 rfl rfl)
theorem dX0_lists_2 : decode cX0_lists 2 = .ok (.iload_n 3, 1) := dk_29 (dk_at dksX0_lists_0 2 rfl rfl)
theorem dX0_lists_3 : decode cX0_lists 3 = .ok (.invokevirtual 303, 3) := dk_182 1 47 (dk_at dksX0_lists_0 3 rfl rfl)
theorem dX0_lists_6 : decode cX0_lists 6 = .ok (.ifCond .eq 11, 3) := dk_153 0 11 (dk_at dksX0_lists_0 6 rfl rfl)
theorem dX0_lists_9 : decode cX0_lists 9 = .ok (.aload_n 0, 1) := dk_42 (dk_at dksX0_lists_0 9 rfl rfl)
theorem dX0_lists_10 : decode cX0_lists 10 = .ok (.iload_n 1, 1) := dk_27 (dk_at dksX0_lists_0 10 rfl rfl)
theorem dX0_lists_11 : decode cX0_lists 11 = .ok (.invokevirtual 254, 3) := dk_182 0 254 (dk_at dksX0_lists_0 11 rfl rfl)
theorem dX0_lists_14 : decode cX0_lists 14 = .ok (.goto 5, 3) := dk_167 0 5 (dk_at dksX0_lists_0 14 rfl rfl)
theorem dX0_lists_17 : decode cX0_lists 17 = .ok (.bipush (-2), 2) := dk_16 254 (dk_at dksX0_lists_0 17 rfl rfl)
theorem dX0_lists_19 : decode cX0_lists 19 = .ok (.istore 4, 2) := dk_54 4 (dk_at dksX0_lists_0 19 rfl rfl)
theorem dX0_lists_21 : decode cX0_lists 21 = .ok (.iload 4, 2) := dk_21 4 (dk_at dksX0_lists_0 21 rfl rfl)
theorem dX0_lists_23 : decode cX0_lists 23 = .ok (.ifCond .eq 6, 3) := dk_153 0 6 (dk_at dksX0_lists_1 0 rfl rfl)
theorem dX0_lists_26 : decode cX0_lists 26 = .ok (.iload 4, 2) := dk_21 4 (dk_at dksX0_lists_1 3 rfl rfl)
theorem dX0_lists_28 : decode cX0_lists 28 = .ok (.ireturn, 1) := dk_172 (dk_at dksX0_lists_1 5 rfl rfl)
theorem dX0_lists_29 : decode cX0_lists 29 = .ok (.aload_n 0, 1) := dk_42 (dk_at dksX0_lists_1 6 rfl rfl)
theorem dX0_lists_30 : decode cX0_lists 30 = .ok (.iload_n 2, 1) := dk_28 (dk_at dksX0_lists_1 7 rfl rfl)
theorem dX0_lists_31 : decode cX0_lists 31 = .ok (.iload_n 3, 1) := dk_29 (dk_at dksX0_lists_1 8 rfl rfl)
theorem dX0_lists_32 : decode cX0_lists 32 = .ok (.invokevirtual 316, 3) := dk_182 1 60 (dk_at dksX0_lists_1 9 rfl rfl)
theorem dX0_lists_35 : decode cX0_lists 35 = .ok (.istore 5, 2) := dk_54 5 (dk_at dksX0_lists_1 12 rfl rfl)
theorem dX0_lists_37 : decode cX0_lists 37 = .ok (.iload 5, 2) := dk_21 5 (dk_at dksX0_lists_1 14 rfl rfl)
theorem dX0_lists_39 : decode cX0_lists 39 = .ok (.iconst (-1), 1) := dk_2 (dk_at dksX0_lists_1 16 rfl rfl)
theorem dX0_lists_40 : decode cX0_lists 40 = .ok (.if_icmp .ne 6, 3) := dk_160 0 6 (dk_at dksX0_lists_1 17 rfl rfl)
theorem dX0_lists_43 : decode cX0_lists 43 = .ok (.bipush (-5), 2) := dk_16 251 (dk_at dksX0_lists_1 20 rfl rfl)
theorem dX0_lists_45 : decode cX0_lists 45 = .ok (.ireturn, 1) := dk_172 (dk_at dksX0_lists_1 22 rfl rfl)
theorem dX0_lists_46 : decode cX0_lists 46 = .ok (.iconst 2, 1) := dk_5 (dk_at dksX0_lists_1 23 rfl rfl)
theorem dX0_lists_47 : decode cX0_lists 47 = .ok (.iload 5, 2) := dk_21 5 (dk_at dksX0_lists_2 0 rfl rfl)
theorem dX0_lists_49 : decode cX0_lists 49 = .ok (.imul, 1) := dk_104 (dk_at dksX0_lists_2 2 rfl rfl)
theorem dX0_lists_50 : decode cX0_lists 50 = .ok (.aload_n 0, 1) := dk_42 (dk_at dksX0_lists_2 3 rfl rfl)
theorem dX0_lists_51 : decode cX0_lists 51 = .ok (.getfield 111, 3) := dk_180 0 111 (dk_at dksX0_lists_2 4 rfl rfl)
theorem dX0_lists_54 : decode cX0_lists 54 = .ok (.iload_n 1, 1) := dk_27 (dk_at dksX0_lists_2 7 rfl rfl)
theorem dX0_lists_55 : decode cX0_lists 55 = .ok (.aaload, 1) := dk_50 (dk_at dksX0_lists_2 8 rfl rfl)
theorem dX0_lists_56 : decode cX0_lists 56 = .ok (.invokevirtual 239, 3) := dk_182 0 239 (dk_at dksX0_lists_2 9 rfl rfl)
theorem dX0_lists_59 : decode cX0_lists 59 = .ok (.invokestatic 206, 3) := dk_184 0 206 (dk_at dksX0_lists_2 12 rfl rfl)
theorem dX0_lists_62 : decode cX0_lists 62 = .ok (.istore 6, 2) := dk_54 6 (dk_at dksX0_lists_2 15 rfl rfl)
theorem dX0_lists_64 : decode cX0_lists 64 = .ok (.iconst 0, 1) := dk_3 (dk_at dksX0_lists_2 17 rfl rfl)
theorem dX0_lists_65 : decode cX0_lists 65 = .ok (.istore 7, 2) := dk_54 7 (dk_at dksX0_lists_2 18 rfl rfl)
theorem dX0_lists_67 : decode cX0_lists 67 = .ok (.iload 7, 2) := dk_21 7 (dk_at dksX0_lists_2 20 rfl rfl)
theorem dX0_lists_69 : decode cX0_lists 69 = .ok (.iload 6, 2) := dk_21 6 (dk_at dksX0_lists_2 22 rfl rfl)
theorem dX0_lists_71 : decode cX0_lists 71 = .ok (.if_icmp .ge 48, 3) := dk_162 0 48 (dk_at dksX0_lists_3 0 rfl rfl)
theorem dX0_lists_74 : decode cX0_lists 74 = .ok (.aload_n 0, 1) := dk_42 (dk_at dksX0_lists_3 3 rfl rfl)
theorem dX0_lists_75 : decode cX0_lists 75 = .ok (.getfield 111, 3) := dk_180 0 111 (dk_at dksX0_lists_3 4 rfl rfl)
theorem dX0_lists_78 : decode cX0_lists 78 = .ok (.iload_n 1, 1) := dk_27 (dk_at dksX0_lists_3 7 rfl rfl)
theorem dX0_lists_79 : decode cX0_lists 79 = .ok (.aaload, 1) := dk_50 (dk_at dksX0_lists_3 8 rfl rfl)
theorem dX0_lists_80 : decode cX0_lists 80 = .ok (.iload 7, 2) := dk_21 7 (dk_at dksX0_lists_3 9 rfl rfl)
theorem dX0_lists_82 : decode cX0_lists 82 = .ok (.iload 7, 2) := dk_21 7 (dk_at dksX0_lists_3 11 rfl rfl)
theorem dX0_lists_84 : decode cX0_lists 84 = .ok (.iconst 2, 1) := dk_5 (dk_at dksX0_lists_3 13 rfl rfl)
theorem dX0_lists_85 : decode cX0_lists 85 = .ok (.irem, 1) := dk_112 (dk_at dksX0_lists_3 14 rfl rfl)
theorem dX0_lists_86 : decode cX0_lists 86 = .ok (.ifCond .ne 21, 3) := dk_154 0 21 (dk_at dksX0_lists_3 15 rfl rfl)
theorem dX0_lists_89 : decode cX0_lists 89 = .ok (.bipush 10, 2) := dk_16 10 (dk_at dksX0_lists_3 18 rfl rfl)
theorem dX0_lists_91 : decode cX0_lists 91 = .ok (.iload_n 2, 1) := dk_28 (dk_at dksX0_lists_3 20 rfl rfl)
theorem dX0_lists_92 : decode cX0_lists 92 = .ok (.imul, 1) := dk_104 (dk_at dksX0_lists_3 21 rfl rfl)
theorem dX0_lists_93 : decode cX0_lists 93 = .ok (.aload_n 0, 1) := dk_42 (dk_at dksX0_lists_3 22 rfl rfl)
theorem dX0_lists_94 : decode cX0_lists 94 = .ok (.getfield 92, 3) := dk_180 0 92 (dk_at dksX0_lists_4 0 rfl rfl)
theorem dX0_lists_97 : decode cX0_lists 97 = .ok (.iload 7, 2) := dk_21 7 (dk_at dksX0_lists_4 3 rfl rfl)
theorem dX0_lists_99 : decode cX0_lists 99 = .ok (.iconst 2, 1) := dk_5 (dk_at dksX0_lists_4 5 rfl rfl)
theorem dX0_lists_100 : decode cX0_lists 100 = .ok (.idiv, 1) := dk_108 (dk_at dksX0_lists_4 6 rfl rfl)
theorem dX0_lists_101 : decode cX0_lists 101 = .ok (.iaload, 1) := dk_46 (dk_at dksX0_lists_4 7 rfl rfl)
theorem dX0_lists_102 : decode cX0_lists 102 = .ok (.iadd, 1) := dk_96 (dk_at dksX0_lists_4 8 rfl rfl)
theorem dX0_lists_103 : decode cX0_lists 103 = .ok (.i2l, 1) := dk_133 (dk_at dksX0_lists_4 9 rfl rfl)
theorem dX0_lists_104 : decode cX0_lists 104 = .ok (.goto 6, 3) := dk_167 0 6 (dk_at dksX0_lists_4 10 rfl rfl)
theorem dX0_lists_107 : decode cX0_lists 107 = .ok (.ldc2_w 220, 3) := dk_20 0 220 (dk_at dksX0_lists_4 13 rfl rfl)
theorem dX0_lists_110 : decode cX0_lists 110 = .ok (.invokevirtual 431, 3) := dk_182 1 175 (dk_at dksX0_lists_4 16 rfl rfl)
theorem dX0_lists_113 : decode cX0_lists 113 = .ok (.iinc 7 1, 3) := dk_132 7 1 (dk_at dksX0_lists_4 19 rfl rfl)
theorem dX0_lists_116 : decode cX0_lists 116 = .ok (.goto (-49), 3) := dk_167 255 207 (dk_at dksX0_lists_5 0 rfl rfl)
theorem dX0_lists_119 : decode cX0_lists 119 = .ok (.iload 6, 2) := dk_21 6 (dk_at dksX0_lists_5 3 rfl rfl)
theorem dX0_lists_121 : decode cX0_lists 121 = .ok (.ireturn, 1) := dk_172 (dk_at dksX0_lists_5 5 rfl rfl)
def dkwX0_image_1 : List UInt8 := [180, 0, 119, 27, 50, 42, 180, 0, 60, 182, 0, 202, 87, 3, 172]
abbrev dktX0_image_1 : List UInt8 := dkwX0_image_1 ++ []
def dkwX0_image_0 : List UInt8 := [27, 133, 9, 10, 184, 0, 132, 154, 0, 6, 16, 254, 172, 42, 180, 0, 115, 27, 42, 180, 0, 17, 83, 42]
abbrev dktX0_image_0 : List UInt8 := dkwX0_image_0 ++ dktX0_image_1
theorem dksX0_image_0 : cX0_image.data.toList.drop 0 = dktX0_image_0 := by decide +kernel
theorem dksX0_image_1 : cX0_image.data.toList.drop 24 = dktX0_image_1 := dk_seg dksX0_image_0 24 rfl rfl
theorem dX0_image_0 : decode cX0_image 0 = .ok (.iload_n 1, 1) := dk_27 (dk_at dksX0_image_0 0 rfl rfl)
theorem dX0_image_1 : decode cX0_image 1 = .ok (.i2l, 1) := dk_133 (dk_at dksX0_image_0 1 rfl rfl)
theorem dX0_image_2 : decode cX0_image 2 = .ok (.lconst 0, 1) := dk_9 (dk_at dksX0_image_0 2 rfl rfl)
theorem dX0_image_3 : decode cX0_image 3 = .ok (.lconst 1, 1) := dk_10 (dk_at dksX0_image_0 3 rfl rfl)
theorem dX0_image_4 : decode cX0_image 4 = .ok (.invokestatic 132, 3) := dk_184 0 132 (dk_at dksX0_image_0 4 rfl rfl)
theorem dX0_image_7 : decode cX0_image 7 = .ok (.ifCond .ne 6, 3) := dk_154 0 6 (dk_at dksX0_image_0 7 rfl rfl)
theorem dX0_image_10 : decode cX0_image 10 = .ok (.bipush (-2), 2) := dk_16 254 (dk_at dksX0_image_0 10 rfl rfl)
theorem dX0_image_12 : decode cX0_image 12 = .ok (.ireturn, 1) := dk_172 (dk_at dksX0_image_0 12 rfl rfl)
theorem dX0_image_13 : decode cX0_image 13 = .ok (.aload_n 0, 1) := dk_42 (dk_at dksX0_image_0 13 rfl rfl)
theorem dX0_image_14 : decode cX0_image 14 = .ok (.getfield 115, 3) := dk_180 0 115 (dk_at dksX0_image_0 14 rfl rfl)
theorem dX0_image_17 : decode cX0_image 17 = .ok (.iload_n 1, 1) := dk_27 (dk_at dksX0_image_0 17 rfl rfl)
theorem dX0_image_18 : decode cX0_image 18 = .ok (.aload_n 0, 1) := dk_42 (dk_at dksX0_image_0 18 rfl rfl)
theorem dX0_image_19 : decode cX0_image 19 = .ok (.getfield 17, 3) := dk_180 0 17 (dk_at dksX0_image_0 19 rfl rfl)
theorem dX0_image_22 : decode cX0_image 22 = .ok (.aastore, 1) := dk_83 (dk_at dksX0_image_0 22 rfl rfl)
theorem dX0_image_23 : decode cX0_image 23 = .ok (.aload_n 0, 1) := dk_42 (dk_at dksX0_image_0 23 rfl rfl)
theorem dX0_image_24 : decode cX0_image 24 = .ok (.getfield 119, 3) := dk_180 0 119 (dk_at dksX0_image_1 0 rfl rfl)
theorem dX0_image_27 : decode cX0_image 27 = .ok (.iload_n 1, 1) := dk_27 (dk_at dksX0_image_1 3 rfl rfl)
theorem dX0_image_28 : decode cX0_image 28 = .ok (.aaload, 1) := dk_50 (dk_at dksX0_image_1 4 rfl rfl)
theorem dX0_image_29 : decode cX0_image 29 = .ok (.aload_n 0, 1) := dk_42 (dk_at dksX0_image_1 5 rfl rfl)
theorem dX0_image_30 : decode cX0_image 30 = .ok (.getfield 60, 3) := dk_180 0 60 (dk_at dksX0_image_1 6 rfl rfl)
theorem dX0_image_33 : decode cX0_image 33 = .ok (.invokevirtual 202, 3) := dk_182 0 202 (dk_at dksX0_image_1 9 rfl rfl)
theorem dX0_image_36 : decode cX0_image 36 = .ok (.pop, 1) := dk_87 (dk_at dksX0_image_1 12 rfl rfl)
theorem dX0_image_37 : decode cX0_image 37 = .ok (.iconst 0, 1) := dk_3 (dk_at dksX0_image_1 13 rfl rfl)
theorem dX0_image_38 : decode cX0_image 38 = .ok (.ireturn, 1) := dk_172 (dk_at dksX0_image_1 14 rfl rfl)
def dkwX0_restore_2 : List UInt8 := [87, 42, 3, 181, 0, 154, 3, 172]
abbrev dktX0_restore_2 : List UInt8 := dkwX0_restore_2 ++ []
def dkwX0_restore_1 : List UInt8 := [172, 42, 42, 180, 0, 115, 27, 50, 181, 0, 17, 42, 180, 0, 60, 42, 180, 0, 119, 27, 50, 182, 0, 202]
abbrev dktX0_restore_1 : List UInt8 := dkwX0_restore_1 ++ dktX0_restore_2
def dkwX0_restore_0 : List UInt8 := [27, 133, 9, 10, 184, 0, 132, 154, 0, 6, 16, 254, 172, 42, 180, 0, 115, 27, 50, 199, 0, 6, 16, 251]
abbrev dktX0_restore_0 : List UInt8 := dkwX0_restore_0 ++ dktX0_restore_1
theorem dksX0_restore_0 : cX0_restore.data.toList.drop 0 = dktX0_restore_0 := by decide +kernel
theorem dksX0_restore_1 : cX0_restore.data.toList.drop 24 = dktX0_restore_1 := dk_seg dksX0_restore_0 24 rfl rfl
theorem dksX0_restore_2 : cX0_restore.data.toList.drop 48 = dktX0_restore_2 := dk_seg dksX0_restore_1 24 rfl rfl
theorem dX0_restore_0 : decode cX0_restore 0 = .ok (.iload_n 1, 1) := dk_27 (dk_at dksX0_restore_0 0 rfl rfl)
theorem dX0_restore_1 : decode cX0_restore 1 = .ok (.i2l, 1) := dk_133 (dk_at dksX0_restore_0 1 rfl rfl)
theorem dX0_restore_2 : decode cX0_restore 2 = .ok (.lconst 0, 1) := dk_9 (dk_at dksX0_restore_0 2 rfl rfl)
theorem dX0_restore_3 : decode cX0_restore 3 = .ok (.lconst 1, 1) := dk_10 (dk_at dksX0_restore_0 3 rfl rfl)
theorem dX0_restore_4 : decode cX0_restore 4 = .ok (.invokestatic 132, 3) := dk_184 0 132 (dk_at dksX0_restore_0 4 rfl rfl)
theorem dX0_restore_7 : decode cX0_restore 7 = .ok (.ifCond .ne 6, 3) := dk_154 0 6 (dk_at dksX0_restore_0 7 rfl rfl)
theorem dX0_restore_10 : decode cX0_restore 10 = .ok (.bipush (-2), 2) := dk_16 254 (dk_at dksX0_restore_0 10 rfl rfl)
theorem dX0_restore_12 : decode cX0_restore 12 = .ok (.ireturn, 1) := dk_172 (dk_at dksX0_restore_0 12 rfl rfl)
theorem dX0_restore_13 : decode cX0_restore 13 = .ok (.aload_n 0, 1) := dk_42 (dk_at dksX0_restore_0 13 rfl rfl)
theorem dX0_restore_14 : decode cX0_restore 14 = .ok (.getfield 115, 3) := dk_180 0 115 (dk_at dksX0_restore_0 14 rfl rfl)
theorem dX0_restore_17 : decode cX0_restore 17 = .ok (.iload_n 1, 1) := dk_27 (dk_at dksX0_restore_0 17 rfl rfl)
theorem dX0_restore_18 : decode cX0_restore 18 = .ok (.aaload, 1) := dk_50 (dk_at dksX0_restore_0 18 rfl rfl)
theorem dX0_restore_19 : decode cX0_restore 19 = .ok (.ifnonnull 6, 3) := dk_199 0 6 (dk_at dksX0_restore_0 19 rfl rfl)
theorem dX0_restore_22 : decode cX0_restore 22 = .ok (.bipush (-5), 2) := dk_16 251 (dk_at dksX0_restore_0 22 rfl rfl)
theorem dX0_restore_24 : decode cX0_restore 24 = .ok (.ireturn, 1) := dk_172 (dk_at dksX0_restore_1 0 rfl rfl)
theorem dX0_restore_25 : decode cX0_restore 25 = .ok (.aload_n 0, 1) := dk_42 (dk_at dksX0_restore_1 1 rfl rfl)
theorem dX0_restore_26 : decode cX0_restore 26 = .ok (.aload_n 0, 1) := dk_42 (dk_at dksX0_restore_1 2 rfl rfl)
theorem dX0_restore_27 : decode cX0_restore 27 = .ok (.getfield 115, 3) := dk_180 0 115 (dk_at dksX0_restore_1 3 rfl rfl)
theorem dX0_restore_30 : decode cX0_restore 30 = .ok (.iload_n 1, 1) := dk_27 (dk_at dksX0_restore_1 6 rfl rfl)
theorem dX0_restore_31 : decode cX0_restore 31 = .ok (.aaload, 1) := dk_50 (dk_at dksX0_restore_1 7 rfl rfl)
theorem dX0_restore_32 : decode cX0_restore 32 = .ok (.putfield 17, 3) := dk_181 0 17 (dk_at dksX0_restore_1 8 rfl rfl)
theorem dX0_restore_35 : decode cX0_restore 35 = .ok (.aload_n 0, 1) := dk_42 (dk_at dksX0_restore_1 11 rfl rfl)
theorem dX0_restore_36 : decode cX0_restore 36 = .ok (.getfield 60, 3) := dk_180 0 60 (dk_at dksX0_restore_1 12 rfl rfl)
theorem dX0_restore_39 : decode cX0_restore 39 = .ok (.aload_n 0, 1) := dk_42 (dk_at dksX0_restore_1 15 rfl rfl)
theorem dX0_restore_40 : decode cX0_restore 40 = .ok (.getfield 119, 3) := dk_180 0 119 (dk_at dksX0_restore_1 16 rfl rfl)
theorem dX0_restore_43 : decode cX0_restore 43 = .ok (.iload_n 1, 1) := dk_27 (dk_at dksX0_restore_1 19 rfl rfl)
theorem dX0_restore_44 : decode cX0_restore 44 = .ok (.aaload, 1) := dk_50 (dk_at dksX0_restore_1 20 rfl rfl)
theorem dX0_restore_45 : decode cX0_restore 45 = .ok (.invokevirtual 202, 3) := dk_182 0 202 (dk_at dksX0_restore_1 21 rfl rfl)
theorem dX0_restore_48 : decode cX0_restore 48 = .ok (.pop, 1) := dk_87 (dk_at dksX0_restore_2 0 rfl rfl)
theorem dX0_restore_49 : decode cX0_restore 49 = .ok (.aload_n 0, 1) := dk_42 (dk_at dksX0_restore_2 1 rfl rfl)
theorem dX0_restore_50 : decode cX0_restore 50 = .ok (.iconst 0, 1) := dk_3 (dk_at dksX0_restore_2 2 rfl rfl)
theorem dX0_restore_51 : decode cX0_restore 51 = .ok (.putfield 154, 3) := dk_181 0 154 (dk_at dksX0_restore_2 3 rfl rfl)
theorem dX0_restore_54 : decode cX0_restore 54 = .ok (.iconst 0, 1) := dk_3 (dk_at dksX0_restore_2 6 rfl rfl)
theorem dX0_restore_55 : decode cX0_restore 55 = .ok (.ireturn, 1) := dk_172 (dk_at dksX0_restore_2 7 rfl rfl)
def dkwX0_count_5 : List UInt8 := [180, 0, 154, 172, 42, 180, 0, 125, 172, 42, 180, 0, 17, 180, 0, 157, 172, 2, 172]
abbrev dktX0_count_5 : List UInt8 := dkwX0_count_5 ++ []
def dkwX0_count_4 : List UInt8 := [180, 0, 60, 180, 1, 4, 172, 42, 180, 0, 60, 180, 0, 230, 172, 42, 180, 0, 17, 180, 1, 148, 172, 42]
abbrev dktX0_count_4 : List UInt8 := dkwX0_count_4 ++ dktX0_count_5
def dkwX0_count_3 : List UInt8 := [42, 180, 0, 17, 182, 1, 113, 172, 42, 180, 0, 60, 180, 0, 185, 172, 42, 182, 1, 186, 172, 42]
abbrev dktX0_count_3 : List UInt8 := dkwX0_count_3 ++ dktX0_count_4
def dkwX0_count_2 : List UInt8 := [42, 180, 0, 17, 180, 0, 222, 172, 42, 180, 0, 17, 180, 0, 217, 172, 42, 180, 0, 17, 180, 0, 160, 172]
abbrev dktX0_count_2 : List UInt8 := dkwX0_count_2 ++ dktX0_count_3
def dkwX0_count_1 : List UInt8 := [170, 0, 0, 0, 0, 0, 150, 0, 0, 0, 0, 0, 0, 0, 11, 0, 0, 0, 63, 0, 0, 0, 71, 0, 0, 0, 79, 0, 0, 0, 87, 0, 0, 0, 95, 0, 0, 0, 103, 0, 0, 0, 108, 0, 0, 0, 116, 0, 0, 0, 124, 0, 0, 0, 132, 0, 0, 0, 137, 0, 0, 0, 142]
abbrev dktX0_count_1 : List UInt8 := dkwX0_count_1 ++ dktX0_count_2
def dkwX0_count_0 : List UInt8 := [27]
abbrev dktX0_count_0 : List UInt8 := dkwX0_count_0 ++ dktX0_count_1
theorem dksX0_count_0 : cX0_count.data.toList.drop 0 = dktX0_count_0 := by decide +kernel
theorem dksX0_count_1 : cX0_count.data.toList.drop 1 = dktX0_count_1 := dk_seg dksX0_count_0 1 rfl rfl
theorem dksX0_count_2 : cX0_count.data.toList.drop 64 = dktX0_count_2 := dk_seg dksX0_count_1 63 rfl rfl
theorem dksX0_count_3 : cX0_count.data.toList.drop 88 = dktX0_count_3 := dk_seg dksX0_count_2 24 rfl rfl
theorem dksX0_count_4 : cX0_count.data.toList.drop 110 = dktX0_count_4 := dk_seg dksX0_count_3 22 rfl rfl
theorem dksX0_count_5 : cX0_count.data.toList.drop 134 = dktX0_count_5 := dk_seg dksX0_count_4 24 rfl rfl
theorem dX0_count_0 : decode cX0_count 0 = .ok (.iload_n 1, 1) := dk_27 (dk_at dksX0_count_0 0 rfl rfl)
theorem dX0_count_1 : decode cX0_count 1 = .ok (.tableswitch 150 0 11 #[63, 71, 79, 87, 95, 103, 108, 116, 124, 132, 137, 142], 63) := by decide +kernel
theorem dX0_count_64 : decode cX0_count 64 = .ok (.aload_n 0, 1) := dk_42 (dk_at dksX0_count_2 0 rfl rfl)
theorem dX0_count_65 : decode cX0_count 65 = .ok (.getfield 17, 3) := dk_180 0 17 (dk_at dksX0_count_2 1 rfl rfl)
theorem dX0_count_68 : decode cX0_count 68 = .ok (.getfield 222, 3) := dk_180 0 222 (dk_at dksX0_count_2 4 rfl rfl)
theorem dX0_count_71 : decode cX0_count 71 = .ok (.ireturn, 1) := dk_172 (dk_at dksX0_count_2 7 rfl rfl)
theorem dX0_count_72 : decode cX0_count 72 = .ok (.aload_n 0, 1) := dk_42 (dk_at dksX0_count_2 8 rfl rfl)
theorem dX0_count_73 : decode cX0_count 73 = .ok (.getfield 17, 3) := dk_180 0 17 (dk_at dksX0_count_2 9 rfl rfl)
theorem dX0_count_76 : decode cX0_count 76 = .ok (.getfield 217, 3) := dk_180 0 217 (dk_at dksX0_count_2 12 rfl rfl)
theorem dX0_count_79 : decode cX0_count 79 = .ok (.ireturn, 1) := dk_172 (dk_at dksX0_count_2 15 rfl rfl)
theorem dX0_count_80 : decode cX0_count 80 = .ok (.aload_n 0, 1) := dk_42 (dk_at dksX0_count_2 16 rfl rfl)
theorem dX0_count_81 : decode cX0_count 81 = .ok (.getfield 17, 3) := dk_180 0 17 (dk_at dksX0_count_2 17 rfl rfl)
theorem dX0_count_84 : decode cX0_count 84 = .ok (.getfield 160, 3) := dk_180 0 160 (dk_at dksX0_count_2 20 rfl rfl)
theorem dX0_count_87 : decode cX0_count 87 = .ok (.ireturn, 1) := dk_172 (dk_at dksX0_count_2 23 rfl rfl)
theorem dX0_count_88 : decode cX0_count 88 = .ok (.aload_n 0, 1) := dk_42 (dk_at dksX0_count_3 0 rfl rfl)
theorem dX0_count_89 : decode cX0_count 89 = .ok (.getfield 17, 3) := dk_180 0 17 (dk_at dksX0_count_3 1 rfl rfl)
theorem dX0_count_92 : decode cX0_count 92 = .ok (.invokevirtual 369, 3) := dk_182 1 113 (dk_at dksX0_count_3 4 rfl rfl)
theorem dX0_count_95 : decode cX0_count 95 = .ok (.ireturn, 1) := dk_172 (dk_at dksX0_count_3 7 rfl rfl)
theorem dX0_count_96 : decode cX0_count 96 = .ok (.aload_n 0, 1) := dk_42 (dk_at dksX0_count_3 8 rfl rfl)
theorem dX0_count_97 : decode cX0_count 97 = .ok (.getfield 60, 3) := dk_180 0 60 (dk_at dksX0_count_3 9 rfl rfl)
theorem dX0_count_100 : decode cX0_count 100 = .ok (.getfield 185, 3) := dk_180 0 185 (dk_at dksX0_count_3 12 rfl rfl)
theorem dX0_count_103 : decode cX0_count 103 = .ok (.ireturn, 1) := dk_172 (dk_at dksX0_count_3 15 rfl rfl)
theorem dX0_count_104 : decode cX0_count 104 = .ok (.aload_n 0, 1) := dk_42 (dk_at dksX0_count_3 16 rfl rfl)
theorem dX0_count_105 : decode cX0_count 105 = .ok (.invokevirtual 442, 3) := dk_182 1 186 (dk_at dksX0_count_3 17 rfl rfl)
theorem dX0_count_108 : decode cX0_count 108 = .ok (.ireturn, 1) := dk_172 (dk_at dksX0_count_3 20 rfl rfl)
theorem dX0_count_109 : decode cX0_count 109 = .ok (.aload_n 0, 1) := dk_42 (dk_at dksX0_count_3 21 rfl rfl)
theorem dX0_count_110 : decode cX0_count 110 = .ok (.getfield 60, 3) := dk_180 0 60 (dk_at dksX0_count_4 0 rfl rfl)
theorem dX0_count_113 : decode cX0_count 113 = .ok (.getfield 260, 3) := dk_180 1 4 (dk_at dksX0_count_4 3 rfl rfl)
theorem dX0_count_116 : decode cX0_count 116 = .ok (.ireturn, 1) := dk_172 (dk_at dksX0_count_4 6 rfl rfl)
theorem dX0_count_117 : decode cX0_count 117 = .ok (.aload_n 0, 1) := dk_42 (dk_at dksX0_count_4 7 rfl rfl)
theorem dX0_count_118 : decode cX0_count 118 = .ok (.getfield 60, 3) := dk_180 0 60 (dk_at dksX0_count_4 8 rfl rfl)
theorem dX0_count_121 : decode cX0_count 121 = .ok (.getfield 230, 3) := dk_180 0 230 (dk_at dksX0_count_4 11 rfl rfl)
theorem dX0_count_124 : decode cX0_count 124 = .ok (.ireturn, 1) := dk_172 (dk_at dksX0_count_4 14 rfl rfl)
theorem dX0_count_125 : decode cX0_count 125 = .ok (.aload_n 0, 1) := dk_42 (dk_at dksX0_count_4 15 rfl rfl)
theorem dX0_count_126 : decode cX0_count 126 = .ok (.getfield 17, 3) := dk_180 0 17 (dk_at dksX0_count_4 16 rfl rfl)
theorem dX0_count_129 : decode cX0_count 129 = .ok (.getfield 404, 3) := dk_180 1 148 (dk_at dksX0_count_4 19 rfl rfl)
theorem dX0_count_132 : decode cX0_count 132 = .ok (.ireturn, 1) := dk_172 (dk_at dksX0_count_4 22 rfl rfl)
theorem dX0_count_133 : decode cX0_count 133 = .ok (.aload_n 0, 1) := dk_42 (dk_at dksX0_count_4 23 rfl rfl)
theorem dX0_count_134 : decode cX0_count 134 = .ok (.getfield 154, 3) := dk_180 0 154 (dk_at dksX0_count_5 0 rfl rfl)
theorem dX0_count_137 : decode cX0_count 137 = .ok (.ireturn, 1) := dk_172 (dk_at dksX0_count_5 3 rfl rfl)
theorem dX0_count_138 : decode cX0_count 138 = .ok (.aload_n 0, 1) := dk_42 (dk_at dksX0_count_5 4 rfl rfl)
theorem dX0_count_139 : decode cX0_count 139 = .ok (.getfield 125, 3) := dk_180 0 125 (dk_at dksX0_count_5 5 rfl rfl)
theorem dX0_count_142 : decode cX0_count 142 = .ok (.ireturn, 1) := dk_172 (dk_at dksX0_count_5 8 rfl rfl)
theorem dX0_count_143 : decode cX0_count 143 = .ok (.aload_n 0, 1) := dk_42 (dk_at dksX0_count_5 9 rfl rfl)
theorem dX0_count_144 : decode cX0_count 144 = .ok (.getfield 17, 3) := dk_180 0 17 (dk_at dksX0_count_5 10 rfl rfl)
theorem dX0_count_147 : decode cX0_count 147 = .ok (.getfield 157, 3) := dk_180 0 157 (dk_at dksX0_count_5 13 rfl rfl)
theorem dX0_count_150 : decode cX0_count 150 = .ok (.ireturn, 1) := dk_172 (dk_at dksX0_count_5 16 rfl rfl)
theorem dX0_count_151 : decode cX0_count 151 = .ok (.iconst (-1), 1) := dk_2 (dk_at dksX0_count_5 17 rfl rfl)
theorem dX0_count_152 : decode cX0_count 152 = .ok (.ireturn, 1) := dk_172 (dk_at dksX0_count_5 18 rfl rfl)
def dkwX0_riders_1 : List UInt8 := [46, 16, 8, 160, 0, 9, 4, 28, 120, 167, 0, 4, 3, 128, 60, 132, 2, 1, 167, 255, 218, 27, 172]
abbrev dktX0_riders_1 : List UInt8 := dkwX0_riders_1 ++ []
def dkwX0_riders_0 : List UInt8 := [3, 60, 3, 61, 28, 42, 180, 0, 17, 180, 0, 160, 162, 0, 33, 27, 42, 180, 0, 60, 180, 0, 173, 28]
abbrev dktX0_riders_0 : List UInt8 := dkwX0_riders_0 ++ dktX0_riders_1
theorem dksX0_riders_0 : cX0_riders.data.toList.drop 0 = dktX0_riders_0 := by decide +kernel
theorem dksX0_riders_1 : cX0_riders.data.toList.drop 24 = dktX0_riders_1 := dk_seg dksX0_riders_0 24 rfl rfl
theorem dX0_riders_0 : decode cX0_riders 0 = .ok (.iconst 0, 1) := dk_3 (dk_at dksX0_riders_0 0 rfl rfl)
theorem dX0_riders_1 : decode cX0_riders 1 = .ok (.istore_n 1, 1) := dk_60 (dk_at dksX0_riders_0 1 rfl rfl)
theorem dX0_riders_2 : decode cX0_riders 2 = .ok (.iconst 0, 1) := dk_3 (dk_at dksX0_riders_0 2 rfl rfl)
theorem dX0_riders_3 : decode cX0_riders 3 = .ok (.istore_n 2, 1) := dk_61 (dk_at dksX0_riders_0 3 rfl rfl)
theorem dX0_riders_4 : decode cX0_riders 4 = .ok (.iload_n 2, 1) := dk_28 (dk_at dksX0_riders_0 4 rfl rfl)
theorem dX0_riders_5 : decode cX0_riders 5 = .ok (.aload_n 0, 1) := dk_42 (dk_at dksX0_riders_0 5 rfl rfl)
theorem dX0_riders_6 : decode cX0_riders 6 = .ok (.getfield 17, 3) := dk_180 0 17 (dk_at dksX0_riders_0 6 rfl rfl)
theorem dX0_riders_9 : decode cX0_riders 9 = .ok (.getfield 160, 3) := dk_180 0 160 (dk_at dksX0_riders_0 9 rfl rfl)
theorem dX0_riders_12 : decode cX0_riders 12 = .ok (.if_icmp .ge 33, 3) := dk_162 0 33 (dk_at dksX0_riders_0 12 rfl rfl)
theorem dX0_riders_15 : decode cX0_riders 15 = .ok (.iload_n 1, 1) := dk_27 (dk_at dksX0_riders_0 15 rfl rfl)
theorem dX0_riders_16 : decode cX0_riders 16 = .ok (.aload_n 0, 1) := dk_42 (dk_at dksX0_riders_0 16 rfl rfl)
theorem dX0_riders_17 : decode cX0_riders 17 = .ok (.getfield 60, 3) := dk_180 0 60 (dk_at dksX0_riders_0 17 rfl rfl)
theorem dX0_riders_20 : decode cX0_riders 20 = .ok (.getfield 173, 3) := dk_180 0 173 (dk_at dksX0_riders_0 20 rfl rfl)
theorem dX0_riders_23 : decode cX0_riders 23 = .ok (.iload_n 2, 1) := dk_28 (dk_at dksX0_riders_0 23 rfl rfl)
theorem dX0_riders_24 : decode cX0_riders 24 = .ok (.iaload, 1) := dk_46 (dk_at dksX0_riders_1 0 rfl rfl)
theorem dX0_riders_25 : decode cX0_riders 25 = .ok (.bipush 8, 2) := dk_16 8 (dk_at dksX0_riders_1 1 rfl rfl)
theorem dX0_riders_27 : decode cX0_riders 27 = .ok (.if_icmp .ne 9, 3) := dk_160 0 9 (dk_at dksX0_riders_1 3 rfl rfl)
theorem dX0_riders_30 : decode cX0_riders 30 = .ok (.iconst 1, 1) := dk_4 (dk_at dksX0_riders_1 6 rfl rfl)
theorem dX0_riders_31 : decode cX0_riders 31 = .ok (.iload_n 2, 1) := dk_28 (dk_at dksX0_riders_1 7 rfl rfl)
theorem dX0_riders_32 : decode cX0_riders 32 = .ok (.ishl, 1) := dk_120 (dk_at dksX0_riders_1 8 rfl rfl)
theorem dX0_riders_33 : decode cX0_riders 33 = .ok (.goto 4, 3) := dk_167 0 4 (dk_at dksX0_riders_1 9 rfl rfl)
theorem dX0_riders_36 : decode cX0_riders 36 = .ok (.iconst 0, 1) := dk_3 (dk_at dksX0_riders_1 12 rfl rfl)
theorem dX0_riders_37 : decode cX0_riders 37 = .ok (.ior, 1) := dk_128 (dk_at dksX0_riders_1 13 rfl rfl)
theorem dX0_riders_38 : decode cX0_riders 38 = .ok (.istore_n 1, 1) := dk_60 (dk_at dksX0_riders_1 14 rfl rfl)
theorem dX0_riders_39 : decode cX0_riders 39 = .ok (.iinc 2 1, 3) := dk_132 2 1 (dk_at dksX0_riders_1 15 rfl rfl)
theorem dX0_riders_42 : decode cX0_riders 42 = .ok (.goto (-38), 3) := dk_167 255 218 (dk_at dksX0_riders_1 18 rfl rfl)
theorem dX0_riders_45 : decode cX0_riders 45 = .ok (.iload_n 1, 1) := dk_27 (dk_at dksX0_riders_1 21 rfl rfl)
theorem dX0_riders_46 : decode cX0_riders 46 = .ok (.ireturn, 1) := dk_172 (dk_at dksX0_riders_1 22 rfl rfl)
def dkwX1_init_2 : List UInt8 := [181, 0, 27, 42, 5, 181, 0, 30, 42, 4, 181, 0, 34, 177]
abbrev dktX1_init_2 : List UInt8 := dkwX1_init_2 ++ []
def dkwX1_init_1 : List UInt8 := [181, 0, 18, 42, 8, 188, 10, 181, 0, 21, 42, 8, 188, 10, 181, 0, 24, 42, 16, 6, 188, 10]
abbrev dktX1_init_1 : List UInt8 := dkwX1_init_1 ++ dktX1_init_2
def dkwX1_init_0 : List UInt8 := [42, 183, 0, 3, 42, 16, 6, 188, 10, 181, 0, 9, 42, 8, 188, 10, 181, 0, 15, 42, 8, 188, 10]
abbrev dktX1_init_0 : List UInt8 := dkwX1_init_0 ++ dktX1_init_1
theorem dksX1_init_0 : cX1_init.data.toList.drop 0 = dktX1_init_0 := by decide +kernel
theorem dksX1_init_1 : cX1_init.data.toList.drop 23 = dktX1_init_1 := dk_seg dksX1_init_0 23 rfl rfl
theorem dksX1_init_2 : cX1_init.data.toList.drop 45 = dktX1_init_2 := dk_seg dksX1_init_1 22 rfl rfl
theorem dX1_init_0 : decode cX1_init 0 = .ok (.aload_n 0, 1) := dk_42 (dk_at dksX1_init_0 0 rfl rfl)
theorem dX1_init_1 : decode cX1_init 1 = .ok (.invokespecial 3, 3) := dk_183 0 3 (dk_at dksX1_init_0 1 rfl rfl)
theorem dX1_init_4 : decode cX1_init 4 = .ok (.aload_n 0, 1) := dk_42 (dk_at dksX1_init_0 4 rfl rfl)
theorem dX1_init_5 : decode cX1_init 5 = .ok (.bipush 6, 2) := dk_16 6 (dk_at dksX1_init_0 5 rfl rfl)
theorem dX1_init_7 : decode cX1_init 7 = .ok (.newarray .int, 2) := dk_188_10 (dk_at dksX1_init_0 7 rfl rfl)
theorem dX1_init_9 : decode cX1_init 9 = .ok (.putfield 9, 3) := dk_181 0 9 (dk_at dksX1_init_0 9 rfl rfl)
theorem dX1_init_12 : decode cX1_init 12 = .ok (.aload_n 0, 1) := dk_42 (dk_at dksX1_init_0 12 rfl rfl)
theorem dX1_init_13 : decode cX1_init 13 = .ok (.iconst 5, 1) := dk_8 (dk_at dksX1_init_0 13 rfl rfl)
theorem dX1_init_14 : decode cX1_init 14 = .ok (.newarray .int, 2) := dk_188_10 (dk_at dksX1_init_0 14 rfl rfl)
theorem dX1_init_16 : decode cX1_init 16 = .ok (.putfield 15, 3) := dk_181 0 15 (dk_at dksX1_init_0 16 rfl rfl)
theorem dX1_init_19 : decode cX1_init 19 = .ok (.aload_n 0, 1) := dk_42 (dk_at dksX1_init_0 19 rfl rfl)
theorem dX1_init_20 : decode cX1_init 20 = .ok (.iconst 5, 1) := dk_8 (dk_at dksX1_init_0 20 rfl rfl)
theorem dX1_init_21 : decode cX1_init 21 = .ok (.newarray .int, 2) := dk_188_10 (dk_at dksX1_init_0 21 rfl rfl)
theorem dX1_init_23 : decode cX1_init 23 = .ok (.putfield 18, 3) := dk_181 0 18 (dk_at dksX1_init_1 0 rfl rfl)
theorem dX1_init_26 : decode cX1_init 26 = .ok (.aload_n 0, 1) := dk_42 (dk_at dksX1_init_1 3 rfl rfl)
theorem dX1_init_27 : decode cX1_init 27 = .ok (.iconst 5, 1) := dk_8 (dk_at dksX1_init_1 4 rfl rfl)
theorem dX1_init_28 : decode cX1_init 28 = .ok (.newarray .int, 2) := dk_188_10 (dk_at dksX1_init_1 5 rfl rfl)
theorem dX1_init_30 : decode cX1_init 30 = .ok (.putfield 21, 3) := dk_181 0 21 (dk_at dksX1_init_1 7 rfl rfl)
theorem dX1_init_33 : decode cX1_init 33 = .ok (.aload_n 0, 1) := dk_42 (dk_at dksX1_init_1 10 rfl rfl)
theorem dX1_init_34 : decode cX1_init 34 = .ok (.iconst 5, 1) := dk_8 (dk_at dksX1_init_1 11 rfl rfl)
theorem dX1_init_35 : decode cX1_init 35 = .ok (.newarray .int, 2) := dk_188_10 (dk_at dksX1_init_1 12 rfl rfl)
theorem dX1_init_37 : decode cX1_init 37 = .ok (.putfield 24, 3) := dk_181 0 24 (dk_at dksX1_init_1 14 rfl rfl)
theorem dX1_init_40 : decode cX1_init 40 = .ok (.aload_n 0, 1) := dk_42 (dk_at dksX1_init_1 17 rfl rfl)
theorem dX1_init_41 : decode cX1_init 41 = .ok (.bipush 6, 2) := dk_16 6 (dk_at dksX1_init_1 18 rfl rfl)
theorem dX1_init_43 : decode cX1_init 43 = .ok (.newarray .int, 2) := dk_188_10 (dk_at dksX1_init_1 20 rfl rfl)
theorem dX1_init_45 : decode cX1_init 45 = .ok (.putfield 27, 3) := dk_181 0 27 (dk_at dksX1_init_2 0 rfl rfl)
theorem dX1_init_48 : decode cX1_init 48 = .ok (.aload_n 0, 1) := dk_42 (dk_at dksX1_init_2 3 rfl rfl)
theorem dX1_init_49 : decode cX1_init 49 = .ok (.iconst 2, 1) := dk_5 (dk_at dksX1_init_2 4 rfl rfl)
theorem dX1_init_50 : decode cX1_init 50 = .ok (.putfield 30, 3) := dk_181 0 30 (dk_at dksX1_init_2 5 rfl rfl)
theorem dX1_init_53 : decode cX1_init 53 = .ok (.aload_n 0, 1) := dk_42 (dk_at dksX1_init_2 8 rfl rfl)
theorem dX1_init_54 : decode cX1_init 54 = .ok (.iconst 1, 1) := dk_4 (dk_at dksX1_init_2 9 rfl rfl)
theorem dX1_init_55 : decode cX1_init 55 = .ok (.putfield 34, 3) := dk_181 0 34 (dk_at dksX1_init_2 10 rfl rfl)
theorem dX1_init_58 : decode cX1_init 58 = .ok (.return_, 1) := dk_177 (dk_at dksX1_init_2 13 rfl rfl)
def dkwX1_serves_1 : List UInt8 := [182, 0, 41, 42, 180, 0, 51, 42, 180, 0, 27, 182, 0, 45, 172]
abbrev dktX1_serves_1 : List UInt8 := dkwX1_serves_1 ++ []
def dkwX1_serves_0 : List UInt8 := [42, 180, 0, 51, 199, 0, 14, 21, 4, 154, 0, 7, 4, 167, 0, 4, 3, 172, 42, 27, 28, 29, 21, 4]
abbrev dktX1_serves_0 : List UInt8 := dkwX1_serves_0 ++ dktX1_serves_1
theorem dksX1_serves_0 : cX1_serves.data.toList.drop 0 = dktX1_serves_0 := by decide +kernel
theorem dksX1_serves_1 : cX1_serves.data.toList.drop 24 = dktX1_serves_1 := dk_seg dksX1_serves_0 24 rfl rfl
theorem dX1_serves_0 : decode cX1_serves 0 = .ok (.aload_n 0, 1) := dk_42 (dk_at dksX1_serves_0 0 rfl rfl)
theorem dX1_serves_1 : decode cX1_serves 1 = .ok (.getfield 51, 3) := dk_180 0 51 (dk_at dksX1_serves_0 1 rfl rfl)
theorem dX1_serves_4 : decode cX1_serves 4 = .ok (.ifnonnull 14, 3) := dk_199 0 14 (dk_at dksX1_serves_0 4 rfl rfl)
theorem dX1_serves_7 : decode cX1_serves 7 = .ok (.iload 4, 2) := dk_21 4 (dk_at dksX1_serves_0 7 rfl rfl)
theorem dX1_serves_9 : decode cX1_serves 9 = .ok (.ifCond .ne 7, 3) := dk_154 0 7 (dk_at dksX1_serves_0 9 rfl rfl)
theorem dX1_serves_12 : decode cX1_serves 12 = .ok (.iconst 1, 1) := dk_4 (dk_at dksX1_serves_0 12 rfl rfl)
theorem dX1_serves_13 : decode cX1_serves 13 = .ok (.goto 4, 3) := dk_167 0 4 (dk_at dksX1_serves_0 13 rfl rfl)
theorem dX1_serves_16 : decode cX1_serves 16 = .ok (.iconst 0, 1) := dk_3 (dk_at dksX1_serves_0 16 rfl rfl)
theorem dX1_serves_17 : decode cX1_serves 17 = .ok (.ireturn, 1) := dk_172 (dk_at dksX1_serves_0 17 rfl rfl)
theorem dX1_serves_18 : decode cX1_serves 18 = .ok (.aload_n 0, 1) := dk_42 (dk_at dksX1_serves_0 18 rfl rfl)
theorem dX1_serves_19 : decode cX1_serves 19 = .ok (.iload_n 1, 1) := dk_27 (dk_at dksX1_serves_0 19 rfl rfl)
theorem dX1_serves_20 : decode cX1_serves 20 = .ok (.iload_n 2, 1) := dk_28 (dk_at dksX1_serves_0 20 rfl rfl)
theorem dX1_serves_21 : decode cX1_serves 21 = .ok (.iload_n 3, 1) := dk_29 (dk_at dksX1_serves_0 21 rfl rfl)
theorem dX1_serves_22 : decode cX1_serves 22 = .ok (.iload 4, 2) := dk_21 4 (dk_at dksX1_serves_0 22 rfl rfl)
theorem dX1_serves_24 : decode cX1_serves 24 = .ok (.invokevirtual 41, 3) := dk_182 0 41 (dk_at dksX1_serves_1 0 rfl rfl)
theorem dX1_serves_27 : decode cX1_serves 27 = .ok (.aload_n 0, 1) := dk_42 (dk_at dksX1_serves_1 3 rfl rfl)
theorem dX1_serves_28 : decode cX1_serves 28 = .ok (.getfield 51, 3) := dk_180 0 51 (dk_at dksX1_serves_1 4 rfl rfl)
theorem dX1_serves_31 : decode cX1_serves 31 = .ok (.aload_n 0, 1) := dk_42 (dk_at dksX1_serves_1 7 rfl rfl)
theorem dX1_serves_32 : decode cX1_serves 32 = .ok (.getfield 27, 3) := dk_180 0 27 (dk_at dksX1_serves_1 8 rfl rfl)
theorem dX1_serves_35 : decode cX1_serves 35 = .ok (.invokevirtual 45, 3) := dk_182 0 45 (dk_at dksX1_serves_1 11 rfl rfl)
theorem dX1_serves_38 : decode cX1_serves 38 = .ok (.ireturn, 1) := dk_172 (dk_at dksX1_serves_1 14 rfl rfl)
def dkwX1_lays_1 : List UInt8 := [180, 0, 27, 6, 42, 180, 0, 18, 29, 46, 79, 42, 180, 0, 27, 7, 21, 4, 79, 177]
abbrev dktX1_lays_1 : List UInt8 := dkwX1_lays_1 ++ []
def dkwX1_lays_0 : List UInt8 := [42, 180, 0, 27, 3, 27, 79, 42, 180, 0, 27, 4, 28, 79, 42, 180, 0, 27, 5, 29, 79, 42]
abbrev dktX1_lays_0 : List UInt8 := dkwX1_lays_0 ++ dktX1_lays_1
theorem dksX1_lays_0 : cX1_lays.data.toList.drop 0 = dktX1_lays_0 := by decide +kernel
theorem dksX1_lays_1 : cX1_lays.data.toList.drop 22 = dktX1_lays_1 := dk_seg dksX1_lays_0 22 rfl rfl
theorem dX1_lays_0 : decode cX1_lays 0 = .ok (.aload_n 0, 1) := dk_42 (dk_at dksX1_lays_0 0 rfl rfl)
theorem dX1_lays_1 : decode cX1_lays 1 = .ok (.getfield 27, 3) := dk_180 0 27 (dk_at dksX1_lays_0 1 rfl rfl)
theorem dX1_lays_4 : decode cX1_lays 4 = .ok (.iconst 0, 1) := dk_3 (dk_at dksX1_lays_0 4 rfl rfl)
theorem dX1_lays_5 : decode cX1_lays 5 = .ok (.iload_n 1, 1) := dk_27 (dk_at dksX1_lays_0 5 rfl rfl)
theorem dX1_lays_6 : decode cX1_lays 6 = .ok (.iastore, 1) := dk_79 (dk_at dksX1_lays_0 6 rfl rfl)
theorem dX1_lays_7 : decode cX1_lays 7 = .ok (.aload_n 0, 1) := dk_42 (dk_at dksX1_lays_0 7 rfl rfl)
theorem dX1_lays_8 : decode cX1_lays 8 = .ok (.getfield 27, 3) := dk_180 0 27 (dk_at dksX1_lays_0 8 rfl rfl)
theorem dX1_lays_11 : decode cX1_lays 11 = .ok (.iconst 1, 1) := dk_4 (dk_at dksX1_lays_0 11 rfl rfl)
theorem dX1_lays_12 : decode cX1_lays 12 = .ok (.iload_n 2, 1) := dk_28 (dk_at dksX1_lays_0 12 rfl rfl)
theorem dX1_lays_13 : decode cX1_lays 13 = .ok (.iastore, 1) := dk_79 (dk_at dksX1_lays_0 13 rfl rfl)
theorem dX1_lays_14 : decode cX1_lays 14 = .ok (.aload_n 0, 1) := dk_42 (dk_at dksX1_lays_0 14 rfl rfl)
theorem dX1_lays_15 : decode cX1_lays 15 = .ok (.getfield 27, 3) := dk_180 0 27 (dk_at dksX1_lays_0 15 rfl rfl)
theorem dX1_lays_18 : decode cX1_lays 18 = .ok (.iconst 2, 1) := dk_5 (dk_at dksX1_lays_0 18 rfl rfl)
theorem dX1_lays_19 : decode cX1_lays 19 = .ok (.iload_n 3, 1) := dk_29 (dk_at dksX1_lays_0 19 rfl rfl)
theorem dX1_lays_20 : decode cX1_lays 20 = .ok (.iastore, 1) := dk_79 (dk_at dksX1_lays_0 20 rfl rfl)
theorem dX1_lays_21 : decode cX1_lays 21 = .ok (.aload_n 0, 1) := dk_42 (dk_at dksX1_lays_0 21 rfl rfl)
theorem dX1_lays_22 : decode cX1_lays 22 = .ok (.getfield 27, 3) := dk_180 0 27 (dk_at dksX1_lays_1 0 rfl rfl)
theorem dX1_lays_25 : decode cX1_lays 25 = .ok (.iconst 3, 1) := dk_6 (dk_at dksX1_lays_1 3 rfl rfl)
theorem dX1_lays_26 : decode cX1_lays 26 = .ok (.aload_n 0, 1) := dk_42 (dk_at dksX1_lays_1 4 rfl rfl)
theorem dX1_lays_27 : decode cX1_lays 27 = .ok (.getfield 18, 3) := dk_180 0 18 (dk_at dksX1_lays_1 5 rfl rfl)
theorem dX1_lays_30 : decode cX1_lays 30 = .ok (.iload_n 3, 1) := dk_29 (dk_at dksX1_lays_1 8 rfl rfl)
theorem dX1_lays_31 : decode cX1_lays 31 = .ok (.iaload, 1) := dk_46 (dk_at dksX1_lays_1 9 rfl rfl)
theorem dX1_lays_32 : decode cX1_lays 32 = .ok (.iastore, 1) := dk_79 (dk_at dksX1_lays_1 10 rfl rfl)
theorem dX1_lays_33 : decode cX1_lays 33 = .ok (.aload_n 0, 1) := dk_42 (dk_at dksX1_lays_1 11 rfl rfl)
theorem dX1_lays_34 : decode cX1_lays 34 = .ok (.getfield 27, 3) := dk_180 0 27 (dk_at dksX1_lays_1 12 rfl rfl)
theorem dX1_lays_37 : decode cX1_lays 37 = .ok (.iconst 4, 1) := dk_7 (dk_at dksX1_lays_1 15 rfl rfl)
theorem dX1_lays_38 : decode cX1_lays 38 = .ok (.iload 4, 2) := dk_21 4 (dk_at dksX1_lays_1 16 rfl rfl)
theorem dX1_lays_40 : decode cX1_lays 40 = .ok (.iastore, 1) := dk_79 (dk_at dksX1_lays_1 18 rfl rfl)
theorem dX1_lays_41 : decode cX1_lays 41 = .ok (.return_, 1) := dk_177 (dk_at dksX1_lays_1 19 rfl rfl)
def dkwX1_walks_1 : List UInt8 := [28, 79, 42, 180, 0, 37, 42, 180, 0, 27, 182, 0, 45, 172]
abbrev dktX1_walks_1 : List UInt8 := dkwX1_walks_1 ++ []
def dkwX1_walks_0 : List UInt8 := [42, 180, 0, 37, 199, 0, 5, 4, 172, 42, 27, 29, 21, 4, 21, 5, 182, 0, 41, 42, 180, 0, 27, 8]
abbrev dktX1_walks_0 : List UInt8 := dkwX1_walks_0 ++ dktX1_walks_1
theorem dksX1_walks_0 : cX1_walks.data.toList.drop 0 = dktX1_walks_0 := by decide +kernel
theorem dksX1_walks_1 : cX1_walks.data.toList.drop 24 = dktX1_walks_1 := dk_seg dksX1_walks_0 24 rfl rfl
theorem dX1_walks_0 : decode cX1_walks 0 = .ok (.aload_n 0, 1) := dk_42 (dk_at dksX1_walks_0 0 rfl rfl)
theorem dX1_walks_1 : decode cX1_walks 1 = .ok (.getfield 37, 3) := dk_180 0 37 (dk_at dksX1_walks_0 1 rfl rfl)
theorem dX1_walks_4 : decode cX1_walks 4 = .ok (.ifnonnull 5, 3) := dk_199 0 5 (dk_at dksX1_walks_0 4 rfl rfl)
theorem dX1_walks_7 : decode cX1_walks 7 = .ok (.iconst 1, 1) := dk_4 (dk_at dksX1_walks_0 7 rfl rfl)
theorem dX1_walks_8 : decode cX1_walks 8 = .ok (.ireturn, 1) := dk_172 (dk_at dksX1_walks_0 8 rfl rfl)
theorem dX1_walks_9 : decode cX1_walks 9 = .ok (.aload_n 0, 1) := dk_42 (dk_at dksX1_walks_0 9 rfl rfl)
theorem dX1_walks_10 : decode cX1_walks 10 = .ok (.iload_n 1, 1) := dk_27 (dk_at dksX1_walks_0 10 rfl rfl)
theorem dX1_walks_11 : decode cX1_walks 11 = .ok (.iload_n 3, 1) := dk_29 (dk_at dksX1_walks_0 11 rfl rfl)
theorem dX1_walks_12 : decode cX1_walks 12 = .ok (.iload 4, 2) := dk_21 4 (dk_at dksX1_walks_0 12 rfl rfl)
theorem dX1_walks_14 : decode cX1_walks 14 = .ok (.iload 5, 2) := dk_21 5 (dk_at dksX1_walks_0 14 rfl rfl)
theorem dX1_walks_16 : decode cX1_walks 16 = .ok (.invokevirtual 41, 3) := dk_182 0 41 (dk_at dksX1_walks_0 16 rfl rfl)
theorem dX1_walks_19 : decode cX1_walks 19 = .ok (.aload_n 0, 1) := dk_42 (dk_at dksX1_walks_0 19 rfl rfl)
theorem dX1_walks_20 : decode cX1_walks 20 = .ok (.getfield 27, 3) := dk_180 0 27 (dk_at dksX1_walks_0 20 rfl rfl)
theorem dX1_walks_23 : decode cX1_walks 23 = .ok (.iconst 5, 1) := dk_8 (dk_at dksX1_walks_0 23 rfl rfl)
theorem dX1_walks_24 : decode cX1_walks 24 = .ok (.iload_n 2, 1) := dk_28 (dk_at dksX1_walks_1 0 rfl rfl)
theorem dX1_walks_25 : decode cX1_walks 25 = .ok (.iastore, 1) := dk_79 (dk_at dksX1_walks_1 1 rfl rfl)
theorem dX1_walks_26 : decode cX1_walks 26 = .ok (.aload_n 0, 1) := dk_42 (dk_at dksX1_walks_1 2 rfl rfl)
theorem dX1_walks_27 : decode cX1_walks 27 = .ok (.getfield 37, 3) := dk_180 0 37 (dk_at dksX1_walks_1 3 rfl rfl)
theorem dX1_walks_30 : decode cX1_walks 30 = .ok (.aload_n 0, 1) := dk_42 (dk_at dksX1_walks_1 6 rfl rfl)
theorem dX1_walks_31 : decode cX1_walks 31 = .ok (.getfield 27, 3) := dk_180 0 27 (dk_at dksX1_walks_1 7 rfl rfl)
theorem dX1_walks_34 : decode cX1_walks 34 = .ok (.invokevirtual 45, 3) := dk_182 0 45 (dk_at dksX1_walks_1 10 rfl rfl)
theorem dX1_walks_37 : decode cX1_walks 37 = .ok (.ireturn, 1) := dk_172 (dk_at dksX1_walks_1 13 rfl rfl)
def dkwX1_isSpot_1 : List UInt8 := [154, 0, 7, 4, 167, 0, 4, 3, 172]
abbrev dktX1_isSpot_1 : List UInt8 := dkwX1_isSpot_1 ++ []
def dkwX1_isSpot_0 : List UInt8 := [31, 9, 5, 42, 180, 0, 30, 104, 4, 100, 133, 184, 0, 54, 154, 0, 11, 31, 20, 0, 58, 148]
abbrev dktX1_isSpot_0 : List UInt8 := dkwX1_isSpot_0 ++ dktX1_isSpot_1
theorem dksX1_isSpot_0 : cX1_isSpot.data.toList.drop 0 = dktX1_isSpot_0 := by decide +kernel
theorem dksX1_isSpot_1 : cX1_isSpot.data.toList.drop 22 = dktX1_isSpot_1 := dk_seg dksX1_isSpot_0 22 rfl rfl
theorem dX1_isSpot_0 : decode cX1_isSpot 0 = .ok (.lload_n 1, 1) := dk_31 (dk_at dksX1_isSpot_0 0 rfl rfl)
theorem dX1_isSpot_1 : decode cX1_isSpot 1 = .ok (.lconst 0, 1) := dk_9 (dk_at dksX1_isSpot_0 1 rfl rfl)
theorem dX1_isSpot_2 : decode cX1_isSpot 2 = .ok (.iconst 2, 1) := dk_5 (dk_at dksX1_isSpot_0 2 rfl rfl)
theorem dX1_isSpot_3 : decode cX1_isSpot 3 = .ok (.aload_n 0, 1) := dk_42 (dk_at dksX1_isSpot_0 3 rfl rfl)
theorem dX1_isSpot_4 : decode cX1_isSpot 4 = .ok (.getfield 30, 3) := dk_180 0 30 (dk_at dksX1_isSpot_0 4 rfl rfl)
theorem dX1_isSpot_7 : decode cX1_isSpot 7 = .ok (.imul, 1) := dk_104 (dk_at dksX1_isSpot_0 7 rfl rfl)
theorem dX1_isSpot_8 : decode cX1_isSpot 8 = .ok (.iconst 1, 1) := dk_4 (dk_at dksX1_isSpot_0 8 rfl rfl)
theorem dX1_isSpot_9 : decode cX1_isSpot 9 = .ok (.isub, 1) := dk_100 (dk_at dksX1_isSpot_0 9 rfl rfl)
theorem dX1_isSpot_10 : decode cX1_isSpot 10 = .ok (.i2l, 1) := dk_133 (dk_at dksX1_isSpot_0 10 rfl rfl)
theorem dX1_isSpot_11 : decode cX1_isSpot 11 = .ok (.invokestatic 54, 3) := dk_184 0 54 (dk_at dksX1_isSpot_0 11 rfl rfl)
theorem dX1_isSpot_14 : decode cX1_isSpot 14 = .ok (.ifCond .ne 11, 3) := dk_154 0 11 (dk_at dksX1_isSpot_0 14 rfl rfl)
theorem dX1_isSpot_17 : decode cX1_isSpot 17 = .ok (.lload_n 1, 1) := dk_31 (dk_at dksX1_isSpot_0 17 rfl rfl)
theorem dX1_isSpot_18 : decode cX1_isSpot 18 = .ok (.ldc2_w 58, 3) := dk_20 0 58 (dk_at dksX1_isSpot_0 18 rfl rfl)
theorem dX1_isSpot_21 : decode cX1_isSpot 21 = .ok (.lcmp, 1) := dk_148 (dk_at dksX1_isSpot_0 21 rfl rfl)
theorem dX1_isSpot_22 : decode cX1_isSpot 22 = .ok (.ifCond .ne 7, 3) := dk_154 0 7 (dk_at dksX1_isSpot_1 0 rfl rfl)
theorem dX1_isSpot_25 : decode cX1_isSpot 25 = .ok (.iconst 1, 1) := dk_4 (dk_at dksX1_isSpot_1 3 rfl rfl)
theorem dX1_isSpot_26 : decode cX1_isSpot 26 = .ok (.goto 4, 3) := dk_167 0 4 (dk_at dksX1_isSpot_1 4 rfl rfl)
theorem dX1_isSpot_29 : decode cX1_isSpot 29 = .ok (.iconst 0, 1) := dk_3 (dk_at dksX1_isSpot_1 7 rfl rfl)
theorem dX1_isSpot_30 : decode cX1_isSpot 30 = .ok (.ireturn, 1) := dk_172 (dk_at dksX1_isSpot_1 8 rfl rfl)
def dkwX1_errands_1 : List UInt8 := [167, 0, 6, 4, 28, 120, 128, 60, 132, 2, 1, 167, 255, 225, 27, 172]
abbrev dktX1_errands_1 : List UInt8 := dkwX1_errands_1 ++ []
def dkwX1_errands_0 : List UInt8 := [3, 60, 3, 61, 28, 42, 180, 0, 60, 162, 0, 29, 27, 42, 180, 0, 21, 28, 46, 2, 160, 0, 7, 3]
abbrev dktX1_errands_0 : List UInt8 := dkwX1_errands_0 ++ dktX1_errands_1
theorem dksX1_errands_0 : cX1_errands.data.toList.drop 0 = dktX1_errands_0 := by decide +kernel
theorem dksX1_errands_1 : cX1_errands.data.toList.drop 24 = dktX1_errands_1 := dk_seg dksX1_errands_0 24 rfl rfl
theorem dX1_errands_0 : decode cX1_errands 0 = .ok (.iconst 0, 1) := dk_3 (dk_at dksX1_errands_0 0 rfl rfl)
theorem dX1_errands_1 : decode cX1_errands 1 = .ok (.istore_n 1, 1) := dk_60 (dk_at dksX1_errands_0 1 rfl rfl)
theorem dX1_errands_2 : decode cX1_errands 2 = .ok (.iconst 0, 1) := dk_3 (dk_at dksX1_errands_0 2 rfl rfl)
theorem dX1_errands_3 : decode cX1_errands 3 = .ok (.istore_n 2, 1) := dk_61 (dk_at dksX1_errands_0 3 rfl rfl)
theorem dX1_errands_4 : decode cX1_errands 4 = .ok (.iload_n 2, 1) := dk_28 (dk_at dksX1_errands_0 4 rfl rfl)
theorem dX1_errands_5 : decode cX1_errands 5 = .ok (.aload_n 0, 1) := dk_42 (dk_at dksX1_errands_0 5 rfl rfl)
theorem dX1_errands_6 : decode cX1_errands 6 = .ok (.getfield 60, 3) := dk_180 0 60 (dk_at dksX1_errands_0 6 rfl rfl)
theorem dX1_errands_9 : decode cX1_errands 9 = .ok (.if_icmp .ge 29, 3) := dk_162 0 29 (dk_at dksX1_errands_0 9 rfl rfl)
theorem dX1_errands_12 : decode cX1_errands 12 = .ok (.iload_n 1, 1) := dk_27 (dk_at dksX1_errands_0 12 rfl rfl)
theorem dX1_errands_13 : decode cX1_errands 13 = .ok (.aload_n 0, 1) := dk_42 (dk_at dksX1_errands_0 13 rfl rfl)
theorem dX1_errands_14 : decode cX1_errands 14 = .ok (.getfield 21, 3) := dk_180 0 21 (dk_at dksX1_errands_0 14 rfl rfl)
theorem dX1_errands_17 : decode cX1_errands 17 = .ok (.iload_n 2, 1) := dk_28 (dk_at dksX1_errands_0 17 rfl rfl)
theorem dX1_errands_18 : decode cX1_errands 18 = .ok (.iaload, 1) := dk_46 (dk_at dksX1_errands_0 18 rfl rfl)
theorem dX1_errands_19 : decode cX1_errands 19 = .ok (.iconst (-1), 1) := dk_2 (dk_at dksX1_errands_0 19 rfl rfl)
theorem dX1_errands_20 : decode cX1_errands 20 = .ok (.if_icmp .ne 7, 3) := dk_160 0 7 (dk_at dksX1_errands_0 20 rfl rfl)
theorem dX1_errands_23 : decode cX1_errands 23 = .ok (.iconst 0, 1) := dk_3 (dk_at dksX1_errands_0 23 rfl rfl)
theorem dX1_errands_24 : decode cX1_errands 24 = .ok (.goto 6, 3) := dk_167 0 6 (dk_at dksX1_errands_1 0 rfl rfl)
theorem dX1_errands_27 : decode cX1_errands 27 = .ok (.iconst 1, 1) := dk_4 (dk_at dksX1_errands_1 3 rfl rfl)
theorem dX1_errands_28 : decode cX1_errands 28 = .ok (.iload_n 2, 1) := dk_28 (dk_at dksX1_errands_1 4 rfl rfl)
theorem dX1_errands_29 : decode cX1_errands 29 = .ok (.ishl, 1) := dk_120 (dk_at dksX1_errands_1 5 rfl rfl)
theorem dX1_errands_30 : decode cX1_errands 30 = .ok (.ior, 1) := dk_128 (dk_at dksX1_errands_1 6 rfl rfl)
theorem dX1_errands_31 : decode cX1_errands 31 = .ok (.istore_n 1, 1) := dk_60 (dk_at dksX1_errands_1 7 rfl rfl)
theorem dX1_errands_32 : decode cX1_errands 32 = .ok (.iinc 2 1, 3) := dk_132 2 1 (dk_at dksX1_errands_1 8 rfl rfl)
theorem dX1_errands_35 : decode cX1_errands 35 = .ok (.goto (-31), 3) := dk_167 255 225 (dk_at dksX1_errands_1 11 rfl rfl)
theorem dX1_errands_38 : decode cX1_errands 38 = .ok (.iload_n 1, 1) := dk_27 (dk_at dksX1_errands_1 14 rfl rfl)
theorem dX1_errands_39 : decode cX1_errands 39 = .ok (.ireturn, 1) := dk_172 (dk_at dksX1_errands_1 15 rfl rfl)
def dkwX2_init_0 : List UInt8 := [42, 43, 181, 0, 3, 42, 183, 0, 9, 177]
abbrev dktX2_init_0 : List UInt8 := dkwX2_init_0 ++ []
theorem dksX2_init_0 : cX2_init.data.toList.drop 0 = dktX2_init_0 := by decide +kernel
theorem dX2_init_0 : decode cX2_init 0 = .ok (.aload_n 0, 1) := dk_42 (dk_at dksX2_init_0 0 rfl rfl)
theorem dX2_init_1 : decode cX2_init 1 = .ok (.aload_n 1, 1) := dk_43 (dk_at dksX2_init_0 1 rfl rfl)
theorem dX2_init_2 : decode cX2_init 2 = .ok (.putfield 3, 3) := dk_181 0 3 (dk_at dksX2_init_0 2 rfl rfl)
theorem dX2_init_5 : decode cX2_init 5 = .ok (.aload_n 0, 1) := dk_42 (dk_at dksX2_init_0 5 rfl rfl)
theorem dX2_init_6 : decode cX2_init 6 = .ok (.invokespecial 9, 3) := dk_183 0 9 (dk_at dksX2_init_0 6 rfl rfl)
theorem dX2_init_9 : decode cX2_init 9 = .ok (.return_, 1) := dk_177 (dk_at dksX2_init_0 9 rfl rfl)
def dkwX2_gap_0 : List UInt8 := [27, 16, 8, 160, 0, 7, 28, 167, 0, 6, 27, 5, 108, 172]
abbrev dktX2_gap_0 : List UInt8 := dkwX2_gap_0 ++ []
theorem dksX2_gap_0 : cX2_gap.data.toList.drop 0 = dktX2_gap_0 := by decide +kernel
theorem dX2_gap_0 : decode cX2_gap 0 = .ok (.iload_n 1, 1) := dk_27 (dk_at dksX2_gap_0 0 rfl rfl)
theorem dX2_gap_1 : decode cX2_gap 1 = .ok (.bipush 8, 2) := dk_16 8 (dk_at dksX2_gap_0 1 rfl rfl)
theorem dX2_gap_3 : decode cX2_gap 3 = .ok (.if_icmp .ne 7, 3) := dk_160 0 7 (dk_at dksX2_gap_0 3 rfl rfl)
theorem dX2_gap_6 : decode cX2_gap 6 = .ok (.iload_n 2, 1) := dk_28 (dk_at dksX2_gap_0 6 rfl rfl)
theorem dX2_gap_7 : decode cX2_gap 7 = .ok (.goto 6, 3) := dk_167 0 6 (dk_at dksX2_gap_0 7 rfl rfl)
theorem dX2_gap_10 : decode cX2_gap 10 = .ok (.iload_n 1, 1) := dk_27 (dk_at dksX2_gap_0 10 rfl rfl)
theorem dX2_gap_11 : decode cX2_gap 11 = .ok (.iconst 2, 1) := dk_5 (dk_at dksX2_gap_0 11 rfl rfl)
theorem dX2_gap_12 : decode cX2_gap 12 = .ok (.idiv, 1) := dk_108 (dk_at dksX2_gap_0 12 rfl rfl)
theorem dX2_gap_13 : decode cX2_gap 13 = .ok (.ireturn, 1) := dk_172 (dk_at dksX2_gap_0 13 rfl rfl)
def dkwX3_init_0 : List UInt8 := [42, 43, 181, 0, 3, 42, 43, 183, 0, 9, 42, 28, 181, 0, 15, 177]
abbrev dktX3_init_0 : List UInt8 := dkwX3_init_0 ++ []
theorem dksX3_init_0 : cX3_init.data.toList.drop 0 = dktX3_init_0 := by decide +kernel
theorem dX3_init_0 : decode cX3_init 0 = .ok (.aload_n 0, 1) := dk_42 (dk_at dksX3_init_0 0 rfl rfl)
theorem dX3_init_1 : decode cX3_init 1 = .ok (.aload_n 1, 1) := dk_43 (dk_at dksX3_init_0 1 rfl rfl)
theorem dX3_init_2 : decode cX3_init 2 = .ok (.putfield 3, 3) := dk_181 0 3 (dk_at dksX3_init_0 2 rfl rfl)
theorem dX3_init_5 : decode cX3_init 5 = .ok (.aload_n 0, 1) := dk_42 (dk_at dksX3_init_0 5 rfl rfl)
theorem dX3_init_6 : decode cX3_init 6 = .ok (.aload_n 1, 1) := dk_43 (dk_at dksX3_init_0 6 rfl rfl)
theorem dX3_init_7 : decode cX3_init 7 = .ok (.invokespecial 9, 3) := dk_183 0 9 (dk_at dksX3_init_0 7 rfl rfl)
theorem dX3_init_10 : decode cX3_init 10 = .ok (.aload_n 0, 1) := dk_42 (dk_at dksX3_init_0 10 rfl rfl)
theorem dX3_init_11 : decode cX3_init 11 = .ok (.iload_n 2, 1) := dk_28 (dk_at dksX3_init_0 11 rfl rfl)
theorem dX3_init_12 : decode cX3_init 12 = .ok (.putfield 15, 3) := dk_181 0 15 (dk_at dksX3_init_0 12 rfl rfl)
theorem dX3_init_15 : decode cX3_init 15 = .ok (.return_, 1) := dk_177 (dk_at dksX3_init_0 15 rfl rfl)
def dkwX3_leads_2 : List UInt8 := [172]
abbrev dktX3_leads_2 : List UInt8 := dkwX3_leads_2 ++ []
def dkwX3_leads_1 : List UInt8 := [180, 0, 23, 4, 100, 133, 184, 0, 28, 153, 0, 14, 27, 5, 42, 180, 0, 15, 104, 96, 167, 0, 4, 2]
abbrev dktX3_leads_1 : List UInt8 := dkwX3_leads_1 ++ dktX3_leads_2
def dkwX3_leads_0 : List UInt8 := [27, 16, 8, 159, 0, 43, 27, 5, 108, 42, 180, 0, 15, 96, 133, 9, 42, 180, 0, 3, 180, 0, 19]
abbrev dktX3_leads_0 : List UInt8 := dkwX3_leads_0 ++ dktX3_leads_1
theorem dksX3_leads_0 : cX3_leads.data.toList.drop 0 = dktX3_leads_0 := by decide +kernel
theorem dksX3_leads_1 : cX3_leads.data.toList.drop 23 = dktX3_leads_1 := dk_seg dksX3_leads_0 23 rfl rfl
theorem dksX3_leads_2 : cX3_leads.data.toList.drop 47 = dktX3_leads_2 := dk_seg dksX3_leads_1 24 rfl rfl
theorem dX3_leads_0 : decode cX3_leads 0 = .ok (.iload_n 1, 1) := dk_27 (dk_at dksX3_leads_0 0 rfl rfl)
theorem dX3_leads_1 : decode cX3_leads 1 = .ok (.bipush 8, 2) := dk_16 8 (dk_at dksX3_leads_0 1 rfl rfl)
theorem dX3_leads_3 : decode cX3_leads 3 = .ok (.if_icmp .eq 43, 3) := dk_159 0 43 (dk_at dksX3_leads_0 3 rfl rfl)
theorem dX3_leads_6 : decode cX3_leads 6 = .ok (.iload_n 1, 1) := dk_27 (dk_at dksX3_leads_0 6 rfl rfl)
theorem dX3_leads_7 : decode cX3_leads 7 = .ok (.iconst 2, 1) := dk_5 (dk_at dksX3_leads_0 7 rfl rfl)
theorem dX3_leads_8 : decode cX3_leads 8 = .ok (.idiv, 1) := dk_108 (dk_at dksX3_leads_0 8 rfl rfl)
theorem dX3_leads_9 : decode cX3_leads 9 = .ok (.aload_n 0, 1) := dk_42 (dk_at dksX3_leads_0 9 rfl rfl)
theorem dX3_leads_10 : decode cX3_leads 10 = .ok (.getfield 15, 3) := dk_180 0 15 (dk_at dksX3_leads_0 10 rfl rfl)
theorem dX3_leads_13 : decode cX3_leads 13 = .ok (.iadd, 1) := dk_96 (dk_at dksX3_leads_0 13 rfl rfl)
theorem dX3_leads_14 : decode cX3_leads 14 = .ok (.i2l, 1) := dk_133 (dk_at dksX3_leads_0 14 rfl rfl)
theorem dX3_leads_15 : decode cX3_leads 15 = .ok (.lconst 0, 1) := dk_9 (dk_at dksX3_leads_0 15 rfl rfl)
theorem dX3_leads_16 : decode cX3_leads 16 = .ok (.aload_n 0, 1) := dk_42 (dk_at dksX3_leads_0 16 rfl rfl)
theorem dX3_leads_17 : decode cX3_leads 17 = .ok (.getfield 3, 3) := dk_180 0 3 (dk_at dksX3_leads_0 17 rfl rfl)
theorem dX3_leads_20 : decode cX3_leads 20 = .ok (.getfield 19, 3) := dk_180 0 19 (dk_at dksX3_leads_0 20 rfl rfl)
theorem dX3_leads_23 : decode cX3_leads 23 = .ok (.getfield 23, 3) := dk_180 0 23 (dk_at dksX3_leads_1 0 rfl rfl)
theorem dX3_leads_26 : decode cX3_leads 26 = .ok (.iconst 1, 1) := dk_4 (dk_at dksX3_leads_1 3 rfl rfl)
theorem dX3_leads_27 : decode cX3_leads 27 = .ok (.isub, 1) := dk_100 (dk_at dksX3_leads_1 4 rfl rfl)
theorem dX3_leads_28 : decode cX3_leads 28 = .ok (.i2l, 1) := dk_133 (dk_at dksX3_leads_1 5 rfl rfl)
theorem dX3_leads_29 : decode cX3_leads 29 = .ok (.invokestatic 28, 3) := dk_184 0 28 (dk_at dksX3_leads_1 6 rfl rfl)
theorem dX3_leads_32 : decode cX3_leads 32 = .ok (.ifCond .eq 14, 3) := dk_153 0 14 (dk_at dksX3_leads_1 9 rfl rfl)
theorem dX3_leads_35 : decode cX3_leads 35 = .ok (.iload_n 1, 1) := dk_27 (dk_at dksX3_leads_1 12 rfl rfl)
theorem dX3_leads_36 : decode cX3_leads 36 = .ok (.iconst 2, 1) := dk_5 (dk_at dksX3_leads_1 13 rfl rfl)
theorem dX3_leads_37 : decode cX3_leads 37 = .ok (.aload_n 0, 1) := dk_42 (dk_at dksX3_leads_1 14 rfl rfl)
theorem dX3_leads_38 : decode cX3_leads 38 = .ok (.getfield 15, 3) := dk_180 0 15 (dk_at dksX3_leads_1 15 rfl rfl)
theorem dX3_leads_41 : decode cX3_leads 41 = .ok (.imul, 1) := dk_104 (dk_at dksX3_leads_1 18 rfl rfl)
theorem dX3_leads_42 : decode cX3_leads 42 = .ok (.iadd, 1) := dk_96 (dk_at dksX3_leads_1 19 rfl rfl)
theorem dX3_leads_43 : decode cX3_leads 43 = .ok (.goto 4, 3) := dk_167 0 4 (dk_at dksX3_leads_1 20 rfl rfl)
theorem dX3_leads_46 : decode cX3_leads 46 = .ok (.iconst (-1), 1) := dk_2 (dk_at dksX3_leads_1 23 rfl rfl)
theorem dX3_leads_47 : decode cX3_leads 47 = .ok (.ireturn, 1) := dk_172 (dk_at dksX3_leads_2 0 rfl rfl)
theorem dX3_isServed_0 : decode cX3_isServed 0 = .ok (.iconst 0, 1) := by decide +kernel
theorem dX3_isServed_1 : decode cX3_isServed 1 = .ok (.ireturn, 1) := by decide +kernel
def dkwX4_init_0 : List UInt8 := [42, 43, 181, 0, 3, 42, 43, 183, 0, 9, 177]
abbrev dktX4_init_0 : List UInt8 := dkwX4_init_0 ++ []
theorem dksX4_init_0 : cX4_init.data.toList.drop 0 = dktX4_init_0 := by decide +kernel
theorem dX4_init_0 : decode cX4_init 0 = .ok (.aload_n 0, 1) := dk_42 (dk_at dksX4_init_0 0 rfl rfl)
theorem dX4_init_1 : decode cX4_init 1 = .ok (.aload_n 1, 1) := dk_43 (dk_at dksX4_init_0 1 rfl rfl)
theorem dX4_init_2 : decode cX4_init 2 = .ok (.putfield 3, 3) := dk_181 0 3 (dk_at dksX4_init_0 2 rfl rfl)
theorem dX4_init_5 : decode cX4_init 5 = .ok (.aload_n 0, 1) := dk_42 (dk_at dksX4_init_0 5 rfl rfl)
theorem dX4_init_6 : decode cX4_init 6 = .ok (.aload_n 1, 1) := dk_43 (dk_at dksX4_init_0 6 rfl rfl)
theorem dX4_init_7 : decode cX4_init 7 = .ok (.invokespecial 9, 3) := dk_183 0 9 (dk_at dksX4_init_0 7 rfl rfl)
theorem dX4_init_10 : decode cX4_init 10 = .ok (.return_, 1) := dk_177 (dk_at dksX4_init_0 10 rfl rfl)
def dkwX4_leads_0 : List UInt8 := [27, 16, 8, 159, 0, 16, 28, 27, 5, 108, 160, 0, 9, 27, 4, 130, 167, 0, 4, 2, 172]
abbrev dktX4_leads_0 : List UInt8 := dkwX4_leads_0 ++ []
theorem dksX4_leads_0 : cX4_leads.data.toList.drop 0 = dktX4_leads_0 := by decide +kernel
theorem dX4_leads_0 : decode cX4_leads 0 = .ok (.iload_n 1, 1) := dk_27 (dk_at dksX4_leads_0 0 rfl rfl)
theorem dX4_leads_1 : decode cX4_leads 1 = .ok (.bipush 8, 2) := dk_16 8 (dk_at dksX4_leads_0 1 rfl rfl)
theorem dX4_leads_3 : decode cX4_leads 3 = .ok (.if_icmp .eq 16, 3) := dk_159 0 16 (dk_at dksX4_leads_0 3 rfl rfl)
theorem dX4_leads_6 : decode cX4_leads 6 = .ok (.iload_n 2, 1) := dk_28 (dk_at dksX4_leads_0 6 rfl rfl)
theorem dX4_leads_7 : decode cX4_leads 7 = .ok (.iload_n 1, 1) := dk_27 (dk_at dksX4_leads_0 7 rfl rfl)
theorem dX4_leads_8 : decode cX4_leads 8 = .ok (.iconst 2, 1) := dk_5 (dk_at dksX4_leads_0 8 rfl rfl)
theorem dX4_leads_9 : decode cX4_leads 9 = .ok (.idiv, 1) := dk_108 (dk_at dksX4_leads_0 9 rfl rfl)
theorem dX4_leads_10 : decode cX4_leads 10 = .ok (.if_icmp .ne 9, 3) := dk_160 0 9 (dk_at dksX4_leads_0 10 rfl rfl)
theorem dX4_leads_13 : decode cX4_leads 13 = .ok (.iload_n 1, 1) := dk_27 (dk_at dksX4_leads_0 13 rfl rfl)
theorem dX4_leads_14 : decode cX4_leads 14 = .ok (.iconst 1, 1) := dk_4 (dk_at dksX4_leads_0 14 rfl rfl)
theorem dX4_leads_15 : decode cX4_leads 15 = .ok (.ixor, 1) := dk_130 (dk_at dksX4_leads_0 15 rfl rfl)
theorem dX4_leads_16 : decode cX4_leads 16 = .ok (.goto 4, 3) := dk_167 0 4 (dk_at dksX4_leads_0 16 rfl rfl)
theorem dX4_leads_19 : decode cX4_leads 19 = .ok (.iconst (-1), 1) := dk_2 (dk_at dksX4_leads_0 19 rfl rfl)
theorem dX4_leads_20 : decode cX4_leads 20 = .ok (.ireturn, 1) := dk_172 (dk_at dksX4_leads_0 20 rfl rfl)
theorem dX4_isServed_0 : decode cX4_isServed 0 = .ok (.iconst 1, 1) := by decide +kernel
theorem dX4_isServed_1 : decode cX4_isServed 1 = .ok (.ireturn, 1) := by decide +kernel
def dkwX5_init_0 : List UInt8 := [42, 43, 181, 0, 3, 42, 43, 183, 0, 9, 177]
abbrev dktX5_init_0 : List UInt8 := dkwX5_init_0 ++ []
theorem dksX5_init_0 : cX5_init.data.toList.drop 0 = dktX5_init_0 := by decide +kernel
theorem dX5_init_0 : decode cX5_init 0 = .ok (.aload_n 0, 1) := dk_42 (dk_at dksX5_init_0 0 rfl rfl)
theorem dX5_init_1 : decode cX5_init 1 = .ok (.aload_n 1, 1) := dk_43 (dk_at dksX5_init_0 1 rfl rfl)
theorem dX5_init_2 : decode cX5_init 2 = .ok (.putfield 3, 3) := dk_181 0 3 (dk_at dksX5_init_0 2 rfl rfl)
theorem dX5_init_5 : decode cX5_init 5 = .ok (.aload_n 0, 1) := dk_42 (dk_at dksX5_init_0 5 rfl rfl)
theorem dX5_init_6 : decode cX5_init 6 = .ok (.aload_n 1, 1) := dk_43 (dk_at dksX5_init_0 6 rfl rfl)
theorem dX5_init_7 : decode cX5_init 7 = .ok (.invokespecial 9, 3) := dk_183 0 9 (dk_at dksX5_init_0 7 rfl rfl)
theorem dX5_init_10 : decode cX5_init 10 = .ok (.return_, 1) := dk_177 (dk_at dksX5_init_0 10 rfl rfl)
def dkwX5_leads_0 : List UInt8 := [27, 16, 8, 159, 0, 15, 28, 27, 5, 108, 160, 0, 8, 16, 8, 167, 0, 4, 2, 172]
abbrev dktX5_leads_0 : List UInt8 := dkwX5_leads_0 ++ []
theorem dksX5_leads_0 : cX5_leads.data.toList.drop 0 = dktX5_leads_0 := by decide +kernel
theorem dX5_leads_0 : decode cX5_leads 0 = .ok (.iload_n 1, 1) := dk_27 (dk_at dksX5_leads_0 0 rfl rfl)
theorem dX5_leads_1 : decode cX5_leads 1 = .ok (.bipush 8, 2) := dk_16 8 (dk_at dksX5_leads_0 1 rfl rfl)
theorem dX5_leads_3 : decode cX5_leads 3 = .ok (.if_icmp .eq 15, 3) := dk_159 0 15 (dk_at dksX5_leads_0 3 rfl rfl)
theorem dX5_leads_6 : decode cX5_leads 6 = .ok (.iload_n 2, 1) := dk_28 (dk_at dksX5_leads_0 6 rfl rfl)
theorem dX5_leads_7 : decode cX5_leads 7 = .ok (.iload_n 1, 1) := dk_27 (dk_at dksX5_leads_0 7 rfl rfl)
theorem dX5_leads_8 : decode cX5_leads 8 = .ok (.iconst 2, 1) := dk_5 (dk_at dksX5_leads_0 8 rfl rfl)
theorem dX5_leads_9 : decode cX5_leads 9 = .ok (.idiv, 1) := dk_108 (dk_at dksX5_leads_0 9 rfl rfl)
theorem dX5_leads_10 : decode cX5_leads 10 = .ok (.if_icmp .ne 8, 3) := dk_160 0 8 (dk_at dksX5_leads_0 10 rfl rfl)
theorem dX5_leads_13 : decode cX5_leads 13 = .ok (.bipush 8, 2) := dk_16 8 (dk_at dksX5_leads_0 13 rfl rfl)
theorem dX5_leads_15 : decode cX5_leads 15 = .ok (.goto 4, 3) := dk_167 0 4 (dk_at dksX5_leads_0 15 rfl rfl)
theorem dX5_leads_18 : decode cX5_leads 18 = .ok (.iconst (-1), 1) := dk_2 (dk_at dksX5_leads_0 18 rfl rfl)
theorem dX5_leads_19 : decode cX5_leads 19 = .ok (.ireturn, 1) := dk_172 (dk_at dksX5_leads_0 19 rfl rfl)
theorem dX5_isServed_0 : decode cX5_isServed 0 = .ok (.iconst 1, 1) := by decide +kernel
theorem dX5_isServed_1 : decode cX5_isServed 1 = .ok (.ireturn, 1) := by decide +kernel
def dkwX6_init_0 : List UInt8 := [42, 43, 181, 0, 3, 42, 43, 183, 0, 9, 42, 28, 181, 0, 15, 177]
abbrev dktX6_init_0 : List UInt8 := dkwX6_init_0 ++ []
theorem dksX6_init_0 : cX6_init.data.toList.drop 0 = dktX6_init_0 := by decide +kernel
theorem dX6_init_0 : decode cX6_init 0 = .ok (.aload_n 0, 1) := dk_42 (dk_at dksX6_init_0 0 rfl rfl)
theorem dX6_init_1 : decode cX6_init 1 = .ok (.aload_n 1, 1) := dk_43 (dk_at dksX6_init_0 1 rfl rfl)
theorem dX6_init_2 : decode cX6_init 2 = .ok (.putfield 3, 3) := dk_181 0 3 (dk_at dksX6_init_0 2 rfl rfl)
theorem dX6_init_5 : decode cX6_init 5 = .ok (.aload_n 0, 1) := dk_42 (dk_at dksX6_init_0 5 rfl rfl)
theorem dX6_init_6 : decode cX6_init 6 = .ok (.aload_n 1, 1) := dk_43 (dk_at dksX6_init_0 6 rfl rfl)
theorem dX6_init_7 : decode cX6_init 7 = .ok (.invokespecial 9, 3) := dk_183 0 9 (dk_at dksX6_init_0 7 rfl rfl)
theorem dX6_init_10 : decode cX6_init 10 = .ok (.aload_n 0, 1) := dk_42 (dk_at dksX6_init_0 10 rfl rfl)
theorem dX6_init_11 : decode cX6_init 11 = .ok (.iload_n 2, 1) := dk_28 (dk_at dksX6_init_0 11 rfl rfl)
theorem dX6_init_12 : decode cX6_init 12 = .ok (.putfield 15, 3) := dk_181 0 15 (dk_at dksX6_init_0 12 rfl rfl)
theorem dX6_init_15 : decode cX6_init 15 = .ok (.return_, 1) := dk_177 (dk_at dksX6_init_0 15 rfl rfl)
def dkwX6_leads_0 : List UInt8 := [27, 16, 8, 160, 0, 19, 28, 2, 159, 0, 14, 5, 28, 104, 42, 180, 0, 15, 96, 167, 0, 4, 2, 172]
abbrev dktX6_leads_0 : List UInt8 := dkwX6_leads_0 ++ []
theorem dksX6_leads_0 : cX6_leads.data.toList.drop 0 = dktX6_leads_0 := by decide +kernel
theorem dX6_leads_0 : decode cX6_leads 0 = .ok (.iload_n 1, 1) := dk_27 (dk_at dksX6_leads_0 0 rfl rfl)
theorem dX6_leads_1 : decode cX6_leads 1 = .ok (.bipush 8, 2) := dk_16 8 (dk_at dksX6_leads_0 1 rfl rfl)
theorem dX6_leads_3 : decode cX6_leads 3 = .ok (.if_icmp .ne 19, 3) := dk_160 0 19 (dk_at dksX6_leads_0 3 rfl rfl)
theorem dX6_leads_6 : decode cX6_leads 6 = .ok (.iload_n 2, 1) := dk_28 (dk_at dksX6_leads_0 6 rfl rfl)
theorem dX6_leads_7 : decode cX6_leads 7 = .ok (.iconst (-1), 1) := dk_2 (dk_at dksX6_leads_0 7 rfl rfl)
theorem dX6_leads_8 : decode cX6_leads 8 = .ok (.if_icmp .eq 14, 3) := dk_159 0 14 (dk_at dksX6_leads_0 8 rfl rfl)
theorem dX6_leads_11 : decode cX6_leads 11 = .ok (.iconst 2, 1) := dk_5 (dk_at dksX6_leads_0 11 rfl rfl)
theorem dX6_leads_12 : decode cX6_leads 12 = .ok (.iload_n 2, 1) := dk_28 (dk_at dksX6_leads_0 12 rfl rfl)
theorem dX6_leads_13 : decode cX6_leads 13 = .ok (.imul, 1) := dk_104 (dk_at dksX6_leads_0 13 rfl rfl)
theorem dX6_leads_14 : decode cX6_leads 14 = .ok (.aload_n 0, 1) := dk_42 (dk_at dksX6_leads_0 14 rfl rfl)
theorem dX6_leads_15 : decode cX6_leads 15 = .ok (.getfield 15, 3) := dk_180 0 15 (dk_at dksX6_leads_0 15 rfl rfl)
theorem dX6_leads_18 : decode cX6_leads 18 = .ok (.iadd, 1) := dk_96 (dk_at dksX6_leads_0 18 rfl rfl)
theorem dX6_leads_19 : decode cX6_leads 19 = .ok (.goto 4, 3) := dk_167 0 4 (dk_at dksX6_leads_0 19 rfl rfl)
theorem dX6_leads_22 : decode cX6_leads 22 = .ok (.iconst (-1), 1) := dk_2 (dk_at dksX6_leads_0 22 rfl rfl)
theorem dX6_leads_23 : decode cX6_leads 23 = .ok (.ireturn, 1) := dk_172 (dk_at dksX6_leads_0 23 rfl rfl)
theorem dX6_isServed_0 : decode cX6_isServed 0 = .ok (.iconst 1, 1) := by decide +kernel
theorem dX6_isServed_1 : decode cX6_isServed 1 = .ok (.ireturn, 1) := by decide +kernel
def dkwX7_init_1 : List UInt8 := [42, 8, 188, 10, 181, 0, 22, 177]
abbrev dktX7_init_1 : List UInt8 := dkwX7_init_1 ++ []
def dkwX7_init_0 : List UInt8 := [42, 43, 181, 0, 3, 42, 183, 0, 9, 42, 16, 6, 188, 10, 181, 0, 15, 42, 8, 188, 10, 181, 0, 19]
abbrev dktX7_init_0 : List UInt8 := dkwX7_init_0 ++ dktX7_init_1
theorem dksX7_init_0 : cX7_init.data.toList.drop 0 = dktX7_init_0 := by decide +kernel
theorem dksX7_init_1 : cX7_init.data.toList.drop 24 = dktX7_init_1 := dk_seg dksX7_init_0 24 rfl rfl
theorem dX7_init_0 : decode cX7_init 0 = .ok (.aload_n 0, 1) := dk_42 (dk_at dksX7_init_0 0 rfl rfl)
theorem dX7_init_1 : decode cX7_init 1 = .ok (.aload_n 1, 1) := dk_43 (dk_at dksX7_init_0 1 rfl rfl)
theorem dX7_init_2 : decode cX7_init 2 = .ok (.putfield 3, 3) := dk_181 0 3 (dk_at dksX7_init_0 2 rfl rfl)
theorem dX7_init_5 : decode cX7_init 5 = .ok (.aload_n 0, 1) := dk_42 (dk_at dksX7_init_0 5 rfl rfl)
theorem dX7_init_6 : decode cX7_init 6 = .ok (.invokespecial 9, 3) := dk_183 0 9 (dk_at dksX7_init_0 6 rfl rfl)
theorem dX7_init_9 : decode cX7_init 9 = .ok (.aload_n 0, 1) := dk_42 (dk_at dksX7_init_0 9 rfl rfl)
theorem dX7_init_10 : decode cX7_init 10 = .ok (.bipush 6, 2) := dk_16 6 (dk_at dksX7_init_0 10 rfl rfl)
theorem dX7_init_12 : decode cX7_init 12 = .ok (.newarray .int, 2) := dk_188_10 (dk_at dksX7_init_0 12 rfl rfl)
theorem dX7_init_14 : decode cX7_init 14 = .ok (.putfield 15, 3) := dk_181 0 15 (dk_at dksX7_init_0 14 rfl rfl)
theorem dX7_init_17 : decode cX7_init 17 = .ok (.aload_n 0, 1) := dk_42 (dk_at dksX7_init_0 17 rfl rfl)
theorem dX7_init_18 : decode cX7_init 18 = .ok (.iconst 5, 1) := dk_8 (dk_at dksX7_init_0 18 rfl rfl)
theorem dX7_init_19 : decode cX7_init 19 = .ok (.newarray .int, 2) := dk_188_10 (dk_at dksX7_init_0 19 rfl rfl)
theorem dX7_init_21 : decode cX7_init 21 = .ok (.putfield 19, 3) := dk_181 0 19 (dk_at dksX7_init_0 21 rfl rfl)
theorem dX7_init_24 : decode cX7_init 24 = .ok (.aload_n 0, 1) := dk_42 (dk_at dksX7_init_1 0 rfl rfl)
theorem dX7_init_25 : decode cX7_init 25 = .ok (.iconst 5, 1) := dk_8 (dk_at dksX7_init_1 1 rfl rfl)
theorem dX7_init_26 : decode cX7_init 26 = .ok (.newarray .int, 2) := dk_188_10 (dk_at dksX7_init_1 2 rfl rfl)
theorem dX7_init_28 : decode cX7_init 28 = .ok (.putfield 22, 3) := dk_181 0 22 (dk_at dksX7_init_1 4 rfl rfl)
theorem dX7_init_31 : decode cX7_init 31 = .ok (.return_, 1) := dk_177 (dk_at dksX7_init_1 7 rfl rfl)
def dkwX7_begins_3 : List UInt8 := [181, 0, 35, 42, 42, 180, 0, 3, 180, 0, 41, 180, 0, 49, 181, 0, 38, 42, 182, 0, 50, 177]
abbrev dktX7_begins_3 : List UInt8 := dkwX7_begins_3 ++ []
def dkwX7_begins_2 : List UInt8 := [162, 0, 16, 42, 180, 0, 22, 27, 3, 79, 132, 1, 1, 167, 255, 241, 42, 3, 181, 0, 31, 42, 3]
abbrev dktX7_begins_2 : List UInt8 := dkwX7_begins_2 ++ dktX7_begins_3
def dkwX7_begins_1 : List UInt8 := [180, 0, 3, 180, 0, 41, 180, 0, 48, 3, 42, 180, 0, 19, 3, 8, 184, 0, 25, 3, 60, 27, 8]
abbrev dktX7_begins_1 : List UInt8 := dkwX7_begins_1 ++ dktX7_begins_2
def dkwX7_begins_0 : List UInt8 := [42, 180, 0, 3, 180, 0, 41, 180, 0, 45, 3, 42, 180, 0, 15, 3, 16, 6, 184, 0, 25, 42]
abbrev dktX7_begins_0 : List UInt8 := dkwX7_begins_0 ++ dktX7_begins_1
theorem dksX7_begins_0 : cX7_begins.data.toList.drop 0 = dktX7_begins_0 := by decide +kernel
theorem dksX7_begins_1 : cX7_begins.data.toList.drop 22 = dktX7_begins_1 := dk_seg dksX7_begins_0 22 rfl rfl
theorem dksX7_begins_2 : cX7_begins.data.toList.drop 45 = dktX7_begins_2 := dk_seg dksX7_begins_1 23 rfl rfl
theorem dksX7_begins_3 : cX7_begins.data.toList.drop 68 = dktX7_begins_3 := dk_seg dksX7_begins_2 23 rfl rfl
theorem dX7_begins_0 : decode cX7_begins 0 = .ok (.aload_n 0, 1) := dk_42 (dk_at dksX7_begins_0 0 rfl rfl)
theorem dX7_begins_1 : decode cX7_begins 1 = .ok (.getfield 3, 3) := dk_180 0 3 (dk_at dksX7_begins_0 1 rfl rfl)
theorem dX7_begins_4 : decode cX7_begins 4 = .ok (.getfield 41, 3) := dk_180 0 41 (dk_at dksX7_begins_0 4 rfl rfl)
theorem dX7_begins_7 : decode cX7_begins 7 = .ok (.getfield 45, 3) := dk_180 0 45 (dk_at dksX7_begins_0 7 rfl rfl)
theorem dX7_begins_10 : decode cX7_begins 10 = .ok (.iconst 0, 1) := dk_3 (dk_at dksX7_begins_0 10 rfl rfl)
theorem dX7_begins_11 : decode cX7_begins 11 = .ok (.aload_n 0, 1) := dk_42 (dk_at dksX7_begins_0 11 rfl rfl)
theorem dX7_begins_12 : decode cX7_begins 12 = .ok (.getfield 15, 3) := dk_180 0 15 (dk_at dksX7_begins_0 12 rfl rfl)
theorem dX7_begins_15 : decode cX7_begins 15 = .ok (.iconst 0, 1) := dk_3 (dk_at dksX7_begins_0 15 rfl rfl)
theorem dX7_begins_16 : decode cX7_begins 16 = .ok (.bipush 6, 2) := dk_16 6 (dk_at dksX7_begins_0 16 rfl rfl)
theorem dX7_begins_18 : decode cX7_begins 18 = .ok (.invokestatic 25, 3) := dk_184 0 25 (dk_at dksX7_begins_0 18 rfl rfl)
theorem dX7_begins_21 : decode cX7_begins 21 = .ok (.aload_n 0, 1) := dk_42 (dk_at dksX7_begins_0 21 rfl rfl)
theorem dX7_begins_22 : decode cX7_begins 22 = .ok (.getfield 3, 3) := dk_180 0 3 (dk_at dksX7_begins_1 0 rfl rfl)
theorem dX7_begins_25 : decode cX7_begins 25 = .ok (.getfield 41, 3) := dk_180 0 41 (dk_at dksX7_begins_1 3 rfl rfl)
theorem dX7_begins_28 : decode cX7_begins 28 = .ok (.getfield 48, 3) := dk_180 0 48 (dk_at dksX7_begins_1 6 rfl rfl)
theorem dX7_begins_31 : decode cX7_begins 31 = .ok (.iconst 0, 1) := dk_3 (dk_at dksX7_begins_1 9 rfl rfl)
theorem dX7_begins_32 : decode cX7_begins 32 = .ok (.aload_n 0, 1) := dk_42 (dk_at dksX7_begins_1 10 rfl rfl)
theorem dX7_begins_33 : decode cX7_begins 33 = .ok (.getfield 19, 3) := dk_180 0 19 (dk_at dksX7_begins_1 11 rfl rfl)
theorem dX7_begins_36 : decode cX7_begins 36 = .ok (.iconst 0, 1) := dk_3 (dk_at dksX7_begins_1 14 rfl rfl)
theorem dX7_begins_37 : decode cX7_begins 37 = .ok (.iconst 5, 1) := dk_8 (dk_at dksX7_begins_1 15 rfl rfl)
theorem dX7_begins_38 : decode cX7_begins 38 = .ok (.invokestatic 25, 3) := dk_184 0 25 (dk_at dksX7_begins_1 16 rfl rfl)
theorem dX7_begins_41 : decode cX7_begins 41 = .ok (.iconst 0, 1) := dk_3 (dk_at dksX7_begins_1 19 rfl rfl)
theorem dX7_begins_42 : decode cX7_begins 42 = .ok (.istore_n 1, 1) := dk_60 (dk_at dksX7_begins_1 20 rfl rfl)
theorem dX7_begins_43 : decode cX7_begins 43 = .ok (.iload_n 1, 1) := dk_27 (dk_at dksX7_begins_1 21 rfl rfl)
theorem dX7_begins_44 : decode cX7_begins 44 = .ok (.iconst 5, 1) := dk_8 (dk_at dksX7_begins_1 22 rfl rfl)
theorem dX7_begins_45 : decode cX7_begins 45 = .ok (.if_icmp .ge 16, 3) := dk_162 0 16 (dk_at dksX7_begins_2 0 rfl rfl)
theorem dX7_begins_48 : decode cX7_begins 48 = .ok (.aload_n 0, 1) := dk_42 (dk_at dksX7_begins_2 3 rfl rfl)
theorem dX7_begins_49 : decode cX7_begins 49 = .ok (.getfield 22, 3) := dk_180 0 22 (dk_at dksX7_begins_2 4 rfl rfl)
theorem dX7_begins_52 : decode cX7_begins 52 = .ok (.iload_n 1, 1) := dk_27 (dk_at dksX7_begins_2 7 rfl rfl)
theorem dX7_begins_53 : decode cX7_begins 53 = .ok (.iconst 0, 1) := dk_3 (dk_at dksX7_begins_2 8 rfl rfl)
theorem dX7_begins_54 : decode cX7_begins 54 = .ok (.iastore, 1) := dk_79 (dk_at dksX7_begins_2 9 rfl rfl)
theorem dX7_begins_55 : decode cX7_begins 55 = .ok (.iinc 1 1, 3) := dk_132 1 1 (dk_at dksX7_begins_2 10 rfl rfl)
theorem dX7_begins_58 : decode cX7_begins 58 = .ok (.goto (-15), 3) := dk_167 255 241 (dk_at dksX7_begins_2 13 rfl rfl)
theorem dX7_begins_61 : decode cX7_begins 61 = .ok (.aload_n 0, 1) := dk_42 (dk_at dksX7_begins_2 16 rfl rfl)
theorem dX7_begins_62 : decode cX7_begins 62 = .ok (.iconst 0, 1) := dk_3 (dk_at dksX7_begins_2 17 rfl rfl)
theorem dX7_begins_63 : decode cX7_begins 63 = .ok (.putfield 31, 3) := dk_181 0 31 (dk_at dksX7_begins_2 18 rfl rfl)
theorem dX7_begins_66 : decode cX7_begins 66 = .ok (.aload_n 0, 1) := dk_42 (dk_at dksX7_begins_2 21 rfl rfl)
theorem dX7_begins_67 : decode cX7_begins 67 = .ok (.iconst 0, 1) := dk_3 (dk_at dksX7_begins_2 22 rfl rfl)
theorem dX7_begins_68 : decode cX7_begins 68 = .ok (.putfield 35, 3) := dk_181 0 35 (dk_at dksX7_begins_3 0 rfl rfl)
theorem dX7_begins_71 : decode cX7_begins 71 = .ok (.aload_n 0, 1) := dk_42 (dk_at dksX7_begins_3 3 rfl rfl)
theorem dX7_begins_72 : decode cX7_begins 72 = .ok (.aload_n 0, 1) := dk_42 (dk_at dksX7_begins_3 4 rfl rfl)
theorem dX7_begins_73 : decode cX7_begins 73 = .ok (.getfield 3, 3) := dk_180 0 3 (dk_at dksX7_begins_3 5 rfl rfl)
theorem dX7_begins_76 : decode cX7_begins 76 = .ok (.getfield 41, 3) := dk_180 0 41 (dk_at dksX7_begins_3 8 rfl rfl)
theorem dX7_begins_79 : decode cX7_begins 79 = .ok (.getfield 49, 3) := dk_180 0 49 (dk_at dksX7_begins_3 11 rfl rfl)
theorem dX7_begins_82 : decode cX7_begins 82 = .ok (.putfield 38, 3) := dk_181 0 38 (dk_at dksX7_begins_3 14 rfl rfl)
theorem dX7_begins_85 : decode cX7_begins 85 = .ok (.aload_n 0, 1) := dk_42 (dk_at dksX7_begins_3 17 rfl rfl)
theorem dX7_begins_86 : decode cX7_begins 86 = .ok (.invokevirtual 50, 3) := dk_182 0 50 (dk_at dksX7_begins_3 18 rfl rfl)
theorem dX7_begins_89 : decode cX7_begins 89 = .ok (.return_, 1) := dk_177 (dk_at dksX7_begins_3 21 rfl rfl)
def dkwX7_sees_3 : List UInt8 := [181, 0, 31, 132, 1, 1, 167, 255, 183, 177]
abbrev dktX7_sees_3 : List UInt8 := dkwX7_sees_3 ++ []
def dkwX7_sees_2 : List UInt8 := [42, 180, 0, 3, 180, 0, 41, 180, 0, 59, 27, 46, 163, 0, 9, 4, 27, 120, 167, 0, 4, 3, 128]
abbrev dktX7_sees_2 : List UInt8 := dkwX7_sees_2 ++ dktX7_sees_3
def dkwX7_sees_1 : List UInt8 := [180, 0, 3, 180, 0, 41, 180, 0, 56, 27, 46, 42, 180, 0, 19, 27, 46, 160, 0, 28, 42, 180, 0, 38]
abbrev dktX7_sees_1 : List UInt8 := dkwX7_sees_1 ++ dktX7_sees_2
def dkwX7_sees_0 : List UInt8 := [3, 60, 27, 42, 180, 0, 3, 180, 0, 41, 180, 0, 53, 162, 0, 65, 42, 89, 180, 0, 31, 42]
abbrev dktX7_sees_0 : List UInt8 := dkwX7_sees_0 ++ dktX7_sees_1
theorem dksX7_sees_0 : cX7_sees.data.toList.drop 0 = dktX7_sees_0 := by decide +kernel
theorem dksX7_sees_1 : cX7_sees.data.toList.drop 22 = dktX7_sees_1 := dk_seg dksX7_sees_0 22 rfl rfl
theorem dksX7_sees_2 : cX7_sees.data.toList.drop 46 = dktX7_sees_2 := dk_seg dksX7_sees_1 24 rfl rfl
theorem dksX7_sees_3 : cX7_sees.data.toList.drop 69 = dktX7_sees_3 := dk_seg dksX7_sees_2 23 rfl rfl
theorem dX7_sees_0 : decode cX7_sees 0 = .ok (.iconst 0, 1) := dk_3 (dk_at dksX7_sees_0 0 rfl rfl)
theorem dX7_sees_1 : decode cX7_sees 1 = .ok (.istore_n 1, 1) := dk_60 (dk_at dksX7_sees_0 1 rfl rfl)
theorem dX7_sees_2 : decode cX7_sees 2 = .ok (.iload_n 1, 1) := dk_27 (dk_at dksX7_sees_0 2 rfl rfl)
theorem dX7_sees_3 : decode cX7_sees 3 = .ok (.aload_n 0, 1) := dk_42 (dk_at dksX7_sees_0 3 rfl rfl)
theorem dX7_sees_4 : decode cX7_sees 4 = .ok (.getfield 3, 3) := dk_180 0 3 (dk_at dksX7_sees_0 4 rfl rfl)
theorem dX7_sees_7 : decode cX7_sees 7 = .ok (.getfield 41, 3) := dk_180 0 41 (dk_at dksX7_sees_0 7 rfl rfl)
theorem dX7_sees_10 : decode cX7_sees 10 = .ok (.getfield 53, 3) := dk_180 0 53 (dk_at dksX7_sees_0 10 rfl rfl)
theorem dX7_sees_13 : decode cX7_sees 13 = .ok (.if_icmp .ge 65, 3) := dk_162 0 65 (dk_at dksX7_sees_0 13 rfl rfl)
theorem dX7_sees_16 : decode cX7_sees 16 = .ok (.aload_n 0, 1) := dk_42 (dk_at dksX7_sees_0 16 rfl rfl)
theorem dX7_sees_17 : decode cX7_sees 17 = .ok (.dup, 1) := dk_89 (dk_at dksX7_sees_0 17 rfl rfl)
theorem dX7_sees_18 : decode cX7_sees 18 = .ok (.getfield 31, 3) := dk_180 0 31 (dk_at dksX7_sees_0 18 rfl rfl)
theorem dX7_sees_21 : decode cX7_sees 21 = .ok (.aload_n 0, 1) := dk_42 (dk_at dksX7_sees_0 21 rfl rfl)
theorem dX7_sees_22 : decode cX7_sees 22 = .ok (.getfield 3, 3) := dk_180 0 3 (dk_at dksX7_sees_1 0 rfl rfl)
theorem dX7_sees_25 : decode cX7_sees 25 = .ok (.getfield 41, 3) := dk_180 0 41 (dk_at dksX7_sees_1 3 rfl rfl)
theorem dX7_sees_28 : decode cX7_sees 28 = .ok (.getfield 56, 3) := dk_180 0 56 (dk_at dksX7_sees_1 6 rfl rfl)
theorem dX7_sees_31 : decode cX7_sees 31 = .ok (.iload_n 1, 1) := dk_27 (dk_at dksX7_sees_1 9 rfl rfl)
theorem dX7_sees_32 : decode cX7_sees 32 = .ok (.iaload, 1) := dk_46 (dk_at dksX7_sees_1 10 rfl rfl)
theorem dX7_sees_33 : decode cX7_sees 33 = .ok (.aload_n 0, 1) := dk_42 (dk_at dksX7_sees_1 11 rfl rfl)
theorem dX7_sees_34 : decode cX7_sees 34 = .ok (.getfield 19, 3) := dk_180 0 19 (dk_at dksX7_sees_1 12 rfl rfl)
theorem dX7_sees_37 : decode cX7_sees 37 = .ok (.iload_n 1, 1) := dk_27 (dk_at dksX7_sees_1 15 rfl rfl)
theorem dX7_sees_38 : decode cX7_sees 38 = .ok (.iaload, 1) := dk_46 (dk_at dksX7_sees_1 16 rfl rfl)
theorem dX7_sees_39 : decode cX7_sees 39 = .ok (.if_icmp .ne 28, 3) := dk_160 0 28 (dk_at dksX7_sees_1 17 rfl rfl)
theorem dX7_sees_42 : decode cX7_sees 42 = .ok (.aload_n 0, 1) := dk_42 (dk_at dksX7_sees_1 20 rfl rfl)
theorem dX7_sees_43 : decode cX7_sees 43 = .ok (.getfield 38, 3) := dk_180 0 38 (dk_at dksX7_sees_1 21 rfl rfl)
theorem dX7_sees_46 : decode cX7_sees 46 = .ok (.aload_n 0, 1) := dk_42 (dk_at dksX7_sees_2 0 rfl rfl)
theorem dX7_sees_47 : decode cX7_sees 47 = .ok (.getfield 3, 3) := dk_180 0 3 (dk_at dksX7_sees_2 1 rfl rfl)
theorem dX7_sees_50 : decode cX7_sees 50 = .ok (.getfield 41, 3) := dk_180 0 41 (dk_at dksX7_sees_2 4 rfl rfl)
theorem dX7_sees_53 : decode cX7_sees 53 = .ok (.getfield 59, 3) := dk_180 0 59 (dk_at dksX7_sees_2 7 rfl rfl)
theorem dX7_sees_56 : decode cX7_sees 56 = .ok (.iload_n 1, 1) := dk_27 (dk_at dksX7_sees_2 10 rfl rfl)
theorem dX7_sees_57 : decode cX7_sees 57 = .ok (.iaload, 1) := dk_46 (dk_at dksX7_sees_2 11 rfl rfl)
theorem dX7_sees_58 : decode cX7_sees 58 = .ok (.if_icmp .gt 9, 3) := dk_163 0 9 (dk_at dksX7_sees_2 12 rfl rfl)
theorem dX7_sees_61 : decode cX7_sees 61 = .ok (.iconst 1, 1) := dk_4 (dk_at dksX7_sees_2 15 rfl rfl)
theorem dX7_sees_62 : decode cX7_sees 62 = .ok (.iload_n 1, 1) := dk_27 (dk_at dksX7_sees_2 16 rfl rfl)
theorem dX7_sees_63 : decode cX7_sees 63 = .ok (.ishl, 1) := dk_120 (dk_at dksX7_sees_2 17 rfl rfl)
theorem dX7_sees_64 : decode cX7_sees 64 = .ok (.goto 4, 3) := dk_167 0 4 (dk_at dksX7_sees_2 18 rfl rfl)
theorem dX7_sees_67 : decode cX7_sees 67 = .ok (.iconst 0, 1) := dk_3 (dk_at dksX7_sees_2 21 rfl rfl)
theorem dX7_sees_68 : decode cX7_sees 68 = .ok (.ior, 1) := dk_128 (dk_at dksX7_sees_2 22 rfl rfl)
theorem dX7_sees_69 : decode cX7_sees 69 = .ok (.putfield 31, 3) := dk_181 0 31 (dk_at dksX7_sees_3 0 rfl rfl)
theorem dX7_sees_72 : decode cX7_sees 72 = .ok (.iinc 1 1, 3) := dk_132 1 1 (dk_at dksX7_sees_3 3 rfl rfl)
theorem dX7_sees_75 : decode cX7_sees 75 = .ok (.goto (-73), 3) := dk_167 255 183 (dk_at dksX7_sees_3 6 rfl rfl)
theorem dX7_sees_78 : decode cX7_sees 78 = .ok (.return_, 1) := dk_177 (dk_at dksX7_sees_3 9 rfl rfl)
def dkwX7_lies_0 : List UInt8 := [42, 180, 0, 15, 42, 180, 0, 38, 27, 96, 42, 180, 0, 3, 180, 0, 41, 180, 0, 62, 112, 46, 172]
abbrev dktX7_lies_0 : List UInt8 := dkwX7_lies_0 ++ []
theorem dksX7_lies_0 : cX7_lies.data.toList.drop 0 = dktX7_lies_0 := by decide +kernel
theorem dX7_lies_0 : decode cX7_lies 0 = .ok (.aload_n 0, 1) := dk_42 (dk_at dksX7_lies_0 0 rfl rfl)
theorem dX7_lies_1 : decode cX7_lies 1 = .ok (.getfield 15, 3) := dk_180 0 15 (dk_at dksX7_lies_0 1 rfl rfl)
theorem dX7_lies_4 : decode cX7_lies 4 = .ok (.aload_n 0, 1) := dk_42 (dk_at dksX7_lies_0 4 rfl rfl)
theorem dX7_lies_5 : decode cX7_lies 5 = .ok (.getfield 38, 3) := dk_180 0 38 (dk_at dksX7_lies_0 5 rfl rfl)
theorem dX7_lies_8 : decode cX7_lies 8 = .ok (.iload_n 1, 1) := dk_27 (dk_at dksX7_lies_0 8 rfl rfl)
theorem dX7_lies_9 : decode cX7_lies 9 = .ok (.iadd, 1) := dk_96 (dk_at dksX7_lies_0 9 rfl rfl)
theorem dX7_lies_10 : decode cX7_lies 10 = .ok (.aload_n 0, 1) := dk_42 (dk_at dksX7_lies_0 10 rfl rfl)
theorem dX7_lies_11 : decode cX7_lies 11 = .ok (.getfield 3, 3) := dk_180 0 3 (dk_at dksX7_lies_0 11 rfl rfl)
theorem dX7_lies_14 : decode cX7_lies 14 = .ok (.getfield 41, 3) := dk_180 0 41 (dk_at dksX7_lies_0 14 rfl rfl)
theorem dX7_lies_17 : decode cX7_lies 17 = .ok (.getfield 62, 3) := dk_180 0 62 (dk_at dksX7_lies_0 17 rfl rfl)
theorem dX7_lies_20 : decode cX7_lies 20 = .ok (.irem, 1) := dk_112 (dk_at dksX7_lies_0 20 rfl rfl)
theorem dX7_lies_21 : decode cX7_lies 21 = .ok (.iaload, 1) := dk_46 (dk_at dksX7_lies_0 21 rfl rfl)
theorem dX7_lies_22 : decode cX7_lies 22 = .ok (.ireturn, 1) := dk_172 (dk_at dksX7_lies_0 22 rfl rfl)
def dkwX7_whyAct_5 : List UInt8 := [158, 0, 7, 4, 167, 0, 4, 3, 182, 0, 79, 153, 0, 7, 3, 167, 0, 4, 6, 172]
abbrev dktX7_whyAct_5 : List UInt8 := dkwX7_whyAct_5 ++ []
def dkwX7_whyAct_4 : List UInt8 := [182, 0, 71, 42, 180, 0, 38, 42, 180, 0, 3, 180, 0, 41, 180, 0, 62, 112, 42, 180, 0, 35]
abbrev dktX7_whyAct_4 : List UInt8 := dkwX7_whyAct_4 ++ dktX7_whyAct_5
def dkwX7_whyAct_3 : List UInt8 := [160, 0, 5, 5, 172, 42, 180, 0, 3, 21, 5, 21, 6, 42, 180, 0, 19, 21, 5, 46, 42, 3]
abbrev dktX7_whyAct_3 : List UInt8 := dkwX7_whyAct_3 ++ dktX7_whyAct_4
def dkwX7_whyAct_2 : List UInt8 := [3, 172, 42, 180, 0, 3, 21, 6, 42, 180, 0, 19, 21, 5, 46, 42, 3, 182, 0, 71, 182, 0, 75, 2]
abbrev dktX7_whyAct_2 : List UInt8 := dkwX7_whyAct_2 ++ dktX7_whyAct_3
def dkwX7_whyAct_1 : List UInt8 := [20, 0, 69, 184, 0, 65, 154, 0, 5, 4, 172, 31, 136, 54, 5, 33, 136, 54, 6, 21, 6, 154, 0, 5]
abbrev dktX7_whyAct_1 : List UInt8 := dkwX7_whyAct_1 ++ dktX7_whyAct_2
def dkwX7_whyAct_0 : List UInt8 := [31, 9, 42, 180, 0, 3, 180, 0, 41, 180, 0, 53, 4, 100, 133, 184, 0, 65, 153, 0, 14, 33, 9]
abbrev dktX7_whyAct_0 : List UInt8 := dkwX7_whyAct_0 ++ dktX7_whyAct_1
theorem dksX7_whyAct_0 : cX7_whyAct.data.toList.drop 0 = dktX7_whyAct_0 := by decide +kernel
theorem dksX7_whyAct_1 : cX7_whyAct.data.toList.drop 23 = dktX7_whyAct_1 := dk_seg dksX7_whyAct_0 23 rfl rfl
theorem dksX7_whyAct_2 : cX7_whyAct.data.toList.drop 47 = dktX7_whyAct_2 := dk_seg dksX7_whyAct_1 24 rfl rfl
theorem dksX7_whyAct_3 : cX7_whyAct.data.toList.drop 71 = dktX7_whyAct_3 := dk_seg dksX7_whyAct_2 24 rfl rfl
theorem dksX7_whyAct_4 : cX7_whyAct.data.toList.drop 93 = dktX7_whyAct_4 := dk_seg dksX7_whyAct_3 22 rfl rfl
theorem dksX7_whyAct_5 : cX7_whyAct.data.toList.drop 115 = dktX7_whyAct_5 := dk_seg dksX7_whyAct_4 22 rfl rfl
theorem dX7_whyAct_0 : decode cX7_whyAct 0 = .ok (.lload_n 1, 1) := dk_31 (dk_at dksX7_whyAct_0 0 rfl rfl)
theorem dX7_whyAct_1 : decode cX7_whyAct 1 = .ok (.lconst 0, 1) := dk_9 (dk_at dksX7_whyAct_0 1 rfl rfl)
theorem dX7_whyAct_2 : decode cX7_whyAct 2 = .ok (.aload_n 0, 1) := dk_42 (dk_at dksX7_whyAct_0 2 rfl rfl)
theorem dX7_whyAct_3 : decode cX7_whyAct 3 = .ok (.getfield 3, 3) := dk_180 0 3 (dk_at dksX7_whyAct_0 3 rfl rfl)
theorem dX7_whyAct_6 : decode cX7_whyAct 6 = .ok (.getfield 41, 3) := dk_180 0 41 (dk_at dksX7_whyAct_0 6 rfl rfl)
theorem dX7_whyAct_9 : decode cX7_whyAct 9 = .ok (.getfield 53, 3) := dk_180 0 53 (dk_at dksX7_whyAct_0 9 rfl rfl)
theorem dX7_whyAct_12 : decode cX7_whyAct 12 = .ok (.iconst 1, 1) := dk_4 (dk_at dksX7_whyAct_0 12 rfl rfl)
theorem dX7_whyAct_13 : decode cX7_whyAct 13 = .ok (.isub, 1) := dk_100 (dk_at dksX7_whyAct_0 13 rfl rfl)
theorem dX7_whyAct_14 : decode cX7_whyAct 14 = .ok (.i2l, 1) := dk_133 (dk_at dksX7_whyAct_0 14 rfl rfl)
theorem dX7_whyAct_15 : decode cX7_whyAct 15 = .ok (.invokestatic 65, 3) := dk_184 0 65 (dk_at dksX7_whyAct_0 15 rfl rfl)
theorem dX7_whyAct_18 : decode cX7_whyAct 18 = .ok (.ifCond .eq 14, 3) := dk_153 0 14 (dk_at dksX7_whyAct_0 18 rfl rfl)
theorem dX7_whyAct_21 : decode cX7_whyAct 21 = .ok (.lload_n 3, 1) := dk_33 (dk_at dksX7_whyAct_0 21 rfl rfl)
theorem dX7_whyAct_22 : decode cX7_whyAct 22 = .ok (.lconst 0, 1) := dk_9 (dk_at dksX7_whyAct_0 22 rfl rfl)
theorem dX7_whyAct_23 : decode cX7_whyAct 23 = .ok (.ldc2_w 69, 3) := dk_20 0 69 (dk_at dksX7_whyAct_1 0 rfl rfl)
theorem dX7_whyAct_26 : decode cX7_whyAct 26 = .ok (.invokestatic 65, 3) := dk_184 0 65 (dk_at dksX7_whyAct_1 3 rfl rfl)
theorem dX7_whyAct_29 : decode cX7_whyAct 29 = .ok (.ifCond .ne 5, 3) := dk_154 0 5 (dk_at dksX7_whyAct_1 6 rfl rfl)
theorem dX7_whyAct_32 : decode cX7_whyAct 32 = .ok (.iconst 1, 1) := dk_4 (dk_at dksX7_whyAct_1 9 rfl rfl)
theorem dX7_whyAct_33 : decode cX7_whyAct 33 = .ok (.ireturn, 1) := dk_172 (dk_at dksX7_whyAct_1 10 rfl rfl)
theorem dX7_whyAct_34 : decode cX7_whyAct 34 = .ok (.lload_n 1, 1) := dk_31 (dk_at dksX7_whyAct_1 11 rfl rfl)
theorem dX7_whyAct_35 : decode cX7_whyAct 35 = .ok (.l2i, 1) := dk_136 (dk_at dksX7_whyAct_1 12 rfl rfl)
theorem dX7_whyAct_36 : decode cX7_whyAct 36 = .ok (.istore 5, 2) := dk_54 5 (dk_at dksX7_whyAct_1 13 rfl rfl)
theorem dX7_whyAct_38 : decode cX7_whyAct 38 = .ok (.lload_n 3, 1) := dk_33 (dk_at dksX7_whyAct_1 15 rfl rfl)
theorem dX7_whyAct_39 : decode cX7_whyAct 39 = .ok (.l2i, 1) := dk_136 (dk_at dksX7_whyAct_1 16 rfl rfl)
theorem dX7_whyAct_40 : decode cX7_whyAct 40 = .ok (.istore 6, 2) := dk_54 6 (dk_at dksX7_whyAct_1 17 rfl rfl)
theorem dX7_whyAct_42 : decode cX7_whyAct 42 = .ok (.iload 6, 2) := dk_21 6 (dk_at dksX7_whyAct_1 19 rfl rfl)
theorem dX7_whyAct_44 : decode cX7_whyAct 44 = .ok (.ifCond .ne 5, 3) := dk_154 0 5 (dk_at dksX7_whyAct_1 21 rfl rfl)
theorem dX7_whyAct_47 : decode cX7_whyAct 47 = .ok (.iconst 0, 1) := dk_3 (dk_at dksX7_whyAct_2 0 rfl rfl)
theorem dX7_whyAct_48 : decode cX7_whyAct 48 = .ok (.ireturn, 1) := dk_172 (dk_at dksX7_whyAct_2 1 rfl rfl)
theorem dX7_whyAct_49 : decode cX7_whyAct 49 = .ok (.aload_n 0, 1) := dk_42 (dk_at dksX7_whyAct_2 2 rfl rfl)
theorem dX7_whyAct_50 : decode cX7_whyAct 50 = .ok (.getfield 3, 3) := dk_180 0 3 (dk_at dksX7_whyAct_2 3 rfl rfl)
theorem dX7_whyAct_53 : decode cX7_whyAct 53 = .ok (.iload 6, 2) := dk_21 6 (dk_at dksX7_whyAct_2 6 rfl rfl)
theorem dX7_whyAct_55 : decode cX7_whyAct 55 = .ok (.aload_n 0, 1) := dk_42 (dk_at dksX7_whyAct_2 8 rfl rfl)
theorem dX7_whyAct_56 : decode cX7_whyAct 56 = .ok (.getfield 19, 3) := dk_180 0 19 (dk_at dksX7_whyAct_2 9 rfl rfl)
theorem dX7_whyAct_59 : decode cX7_whyAct 59 = .ok (.iload 5, 2) := dk_21 5 (dk_at dksX7_whyAct_2 12 rfl rfl)
theorem dX7_whyAct_61 : decode cX7_whyAct 61 = .ok (.iaload, 1) := dk_46 (dk_at dksX7_whyAct_2 14 rfl rfl)
theorem dX7_whyAct_62 : decode cX7_whyAct 62 = .ok (.aload_n 0, 1) := dk_42 (dk_at dksX7_whyAct_2 15 rfl rfl)
theorem dX7_whyAct_63 : decode cX7_whyAct 63 = .ok (.iconst 0, 1) := dk_3 (dk_at dksX7_whyAct_2 16 rfl rfl)
theorem dX7_whyAct_64 : decode cX7_whyAct 64 = .ok (.invokevirtual 71, 3) := dk_182 0 71 (dk_at dksX7_whyAct_2 17 rfl rfl)
theorem dX7_whyAct_67 : decode cX7_whyAct 67 = .ok (.invokevirtual 75, 3) := dk_182 0 75 (dk_at dksX7_whyAct_2 20 rfl rfl)
theorem dX7_whyAct_70 : decode cX7_whyAct 70 = .ok (.iconst (-1), 1) := dk_2 (dk_at dksX7_whyAct_2 23 rfl rfl)
theorem dX7_whyAct_71 : decode cX7_whyAct 71 = .ok (.if_icmp .ne 5, 3) := dk_160 0 5 (dk_at dksX7_whyAct_3 0 rfl rfl)
theorem dX7_whyAct_74 : decode cX7_whyAct 74 = .ok (.iconst 2, 1) := dk_5 (dk_at dksX7_whyAct_3 3 rfl rfl)
theorem dX7_whyAct_75 : decode cX7_whyAct 75 = .ok (.ireturn, 1) := dk_172 (dk_at dksX7_whyAct_3 4 rfl rfl)
theorem dX7_whyAct_76 : decode cX7_whyAct 76 = .ok (.aload_n 0, 1) := dk_42 (dk_at dksX7_whyAct_3 5 rfl rfl)
theorem dX7_whyAct_77 : decode cX7_whyAct 77 = .ok (.getfield 3, 3) := dk_180 0 3 (dk_at dksX7_whyAct_3 6 rfl rfl)
theorem dX7_whyAct_80 : decode cX7_whyAct 80 = .ok (.iload 5, 2) := dk_21 5 (dk_at dksX7_whyAct_3 9 rfl rfl)
theorem dX7_whyAct_82 : decode cX7_whyAct 82 = .ok (.iload 6, 2) := dk_21 6 (dk_at dksX7_whyAct_3 11 rfl rfl)
theorem dX7_whyAct_84 : decode cX7_whyAct 84 = .ok (.aload_n 0, 1) := dk_42 (dk_at dksX7_whyAct_3 13 rfl rfl)
theorem dX7_whyAct_85 : decode cX7_whyAct 85 = .ok (.getfield 19, 3) := dk_180 0 19 (dk_at dksX7_whyAct_3 14 rfl rfl)
theorem dX7_whyAct_88 : decode cX7_whyAct 88 = .ok (.iload 5, 2) := dk_21 5 (dk_at dksX7_whyAct_3 17 rfl rfl)
theorem dX7_whyAct_90 : decode cX7_whyAct 90 = .ok (.iaload, 1) := dk_46 (dk_at dksX7_whyAct_3 19 rfl rfl)
theorem dX7_whyAct_91 : decode cX7_whyAct 91 = .ok (.aload_n 0, 1) := dk_42 (dk_at dksX7_whyAct_3 20 rfl rfl)
theorem dX7_whyAct_92 : decode cX7_whyAct 92 = .ok (.iconst 0, 1) := dk_3 (dk_at dksX7_whyAct_3 21 rfl rfl)
theorem dX7_whyAct_93 : decode cX7_whyAct 93 = .ok (.invokevirtual 71, 3) := dk_182 0 71 (dk_at dksX7_whyAct_4 0 rfl rfl)
theorem dX7_whyAct_96 : decode cX7_whyAct 96 = .ok (.aload_n 0, 1) := dk_42 (dk_at dksX7_whyAct_4 3 rfl rfl)
theorem dX7_whyAct_97 : decode cX7_whyAct 97 = .ok (.getfield 38, 3) := dk_180 0 38 (dk_at dksX7_whyAct_4 4 rfl rfl)
theorem dX7_whyAct_100 : decode cX7_whyAct 100 = .ok (.aload_n 0, 1) := dk_42 (dk_at dksX7_whyAct_4 7 rfl rfl)
theorem dX7_whyAct_101 : decode cX7_whyAct 101 = .ok (.getfield 3, 3) := dk_180 0 3 (dk_at dksX7_whyAct_4 8 rfl rfl)
theorem dX7_whyAct_104 : decode cX7_whyAct 104 = .ok (.getfield 41, 3) := dk_180 0 41 (dk_at dksX7_whyAct_4 11 rfl rfl)
theorem dX7_whyAct_107 : decode cX7_whyAct 107 = .ok (.getfield 62, 3) := dk_180 0 62 (dk_at dksX7_whyAct_4 14 rfl rfl)
theorem dX7_whyAct_110 : decode cX7_whyAct 110 = .ok (.irem, 1) := dk_112 (dk_at dksX7_whyAct_4 17 rfl rfl)
theorem dX7_whyAct_111 : decode cX7_whyAct 111 = .ok (.aload_n 0, 1) := dk_42 (dk_at dksX7_whyAct_4 18 rfl rfl)
theorem dX7_whyAct_112 : decode cX7_whyAct 112 = .ok (.getfield 35, 3) := dk_180 0 35 (dk_at dksX7_whyAct_4 19 rfl rfl)
theorem dX7_whyAct_115 : decode cX7_whyAct 115 = .ok (.ifCond .le 7, 3) := dk_158 0 7 (dk_at dksX7_whyAct_5 0 rfl rfl)
theorem dX7_whyAct_118 : decode cX7_whyAct 118 = .ok (.iconst 1, 1) := dk_4 (dk_at dksX7_whyAct_5 3 rfl rfl)
theorem dX7_whyAct_119 : decode cX7_whyAct 119 = .ok (.goto 4, 3) := dk_167 0 4 (dk_at dksX7_whyAct_5 4 rfl rfl)
theorem dX7_whyAct_122 : decode cX7_whyAct 122 = .ok (.iconst 0, 1) := dk_3 (dk_at dksX7_whyAct_5 7 rfl rfl)
theorem dX7_whyAct_123 : decode cX7_whyAct 123 = .ok (.invokevirtual 79, 3) := dk_182 0 79 (dk_at dksX7_whyAct_5 8 rfl rfl)
theorem dX7_whyAct_126 : decode cX7_whyAct 126 = .ok (.ifCond .eq 7, 3) := dk_153 0 7 (dk_at dksX7_whyAct_5 11 rfl rfl)
theorem dX7_whyAct_129 : decode cX7_whyAct 129 = .ok (.iconst 0, 1) := dk_3 (dk_at dksX7_whyAct_5 14 rfl rfl)
theorem dX7_whyAct_130 : decode cX7_whyAct 130 = .ok (.goto 4, 3) := dk_167 0 4 (dk_at dksX7_whyAct_5 15 rfl rfl)
theorem dX7_whyAct_133 : decode cX7_whyAct 133 = .ok (.iconst 3, 1) := dk_6 (dk_at dksX7_whyAct_5 18 rfl rfl)
theorem dX7_whyAct_134 : decode cX7_whyAct 134 = .ok (.ireturn, 1) := dk_172 (dk_at dksX7_whyAct_5 19 rfl rfl)
def dkwX7_be_2 : List UInt8 := [181, 0, 31, 42, 43, 180, 0, 35, 181, 0, 35, 42, 43, 180, 0, 38, 181, 0, 38, 42, 176]
abbrev dktX7_be_2 : List UInt8 := dkwX7_be_2 ++ []
def dkwX7_be_1 : List UInt8 := [3, 8, 184, 0, 25, 43, 180, 0, 22, 3, 42, 180, 0, 22, 3, 8, 184, 0, 25, 42, 43, 180, 0, 31]
abbrev dktX7_be_1 : List UInt8 := dkwX7_be_1 ++ dktX7_be_2
def dkwX7_be_0 : List UInt8 := [43, 180, 0, 15, 3, 42, 180, 0, 15, 3, 16, 6, 184, 0, 25, 43, 180, 0, 19, 3, 42, 180, 0, 19]
abbrev dktX7_be_0 : List UInt8 := dkwX7_be_0 ++ dktX7_be_1
theorem dksX7_be_0 : cX7_be.data.toList.drop 0 = dktX7_be_0 := by decide +kernel
theorem dksX7_be_1 : cX7_be.data.toList.drop 24 = dktX7_be_1 := dk_seg dksX7_be_0 24 rfl rfl
theorem dksX7_be_2 : cX7_be.data.toList.drop 48 = dktX7_be_2 := dk_seg dksX7_be_1 24 rfl rfl
theorem dX7_be_0 : decode cX7_be 0 = .ok (.aload_n 1, 1) := dk_43 (dk_at dksX7_be_0 0 rfl rfl)
theorem dX7_be_1 : decode cX7_be 1 = .ok (.getfield 15, 3) := dk_180 0 15 (dk_at dksX7_be_0 1 rfl rfl)
theorem dX7_be_4 : decode cX7_be 4 = .ok (.iconst 0, 1) := dk_3 (dk_at dksX7_be_0 4 rfl rfl)
theorem dX7_be_5 : decode cX7_be 5 = .ok (.aload_n 0, 1) := dk_42 (dk_at dksX7_be_0 5 rfl rfl)
theorem dX7_be_6 : decode cX7_be 6 = .ok (.getfield 15, 3) := dk_180 0 15 (dk_at dksX7_be_0 6 rfl rfl)
theorem dX7_be_9 : decode cX7_be 9 = .ok (.iconst 0, 1) := dk_3 (dk_at dksX7_be_0 9 rfl rfl)
theorem dX7_be_10 : decode cX7_be 10 = .ok (.bipush 6, 2) := dk_16 6 (dk_at dksX7_be_0 10 rfl rfl)
theorem dX7_be_12 : decode cX7_be 12 = .ok (.invokestatic 25, 3) := dk_184 0 25 (dk_at dksX7_be_0 12 rfl rfl)
theorem dX7_be_15 : decode cX7_be 15 = .ok (.aload_n 1, 1) := dk_43 (dk_at dksX7_be_0 15 rfl rfl)
theorem dX7_be_16 : decode cX7_be 16 = .ok (.getfield 19, 3) := dk_180 0 19 (dk_at dksX7_be_0 16 rfl rfl)
theorem dX7_be_19 : decode cX7_be 19 = .ok (.iconst 0, 1) := dk_3 (dk_at dksX7_be_0 19 rfl rfl)
theorem dX7_be_20 : decode cX7_be 20 = .ok (.aload_n 0, 1) := dk_42 (dk_at dksX7_be_0 20 rfl rfl)
theorem dX7_be_21 : decode cX7_be 21 = .ok (.getfield 19, 3) := dk_180 0 19 (dk_at dksX7_be_0 21 rfl rfl)
theorem dX7_be_24 : decode cX7_be 24 = .ok (.iconst 0, 1) := dk_3 (dk_at dksX7_be_1 0 rfl rfl)
theorem dX7_be_25 : decode cX7_be 25 = .ok (.iconst 5, 1) := dk_8 (dk_at dksX7_be_1 1 rfl rfl)
theorem dX7_be_26 : decode cX7_be 26 = .ok (.invokestatic 25, 3) := dk_184 0 25 (dk_at dksX7_be_1 2 rfl rfl)
theorem dX7_be_29 : decode cX7_be 29 = .ok (.aload_n 1, 1) := dk_43 (dk_at dksX7_be_1 5 rfl rfl)
theorem dX7_be_30 : decode cX7_be 30 = .ok (.getfield 22, 3) := dk_180 0 22 (dk_at dksX7_be_1 6 rfl rfl)
theorem dX7_be_33 : decode cX7_be 33 = .ok (.iconst 0, 1) := dk_3 (dk_at dksX7_be_1 9 rfl rfl)
theorem dX7_be_34 : decode cX7_be 34 = .ok (.aload_n 0, 1) := dk_42 (dk_at dksX7_be_1 10 rfl rfl)
theorem dX7_be_35 : decode cX7_be 35 = .ok (.getfield 22, 3) := dk_180 0 22 (dk_at dksX7_be_1 11 rfl rfl)
theorem dX7_be_38 : decode cX7_be 38 = .ok (.iconst 0, 1) := dk_3 (dk_at dksX7_be_1 14 rfl rfl)
theorem dX7_be_39 : decode cX7_be 39 = .ok (.iconst 5, 1) := dk_8 (dk_at dksX7_be_1 15 rfl rfl)
theorem dX7_be_40 : decode cX7_be 40 = .ok (.invokestatic 25, 3) := dk_184 0 25 (dk_at dksX7_be_1 16 rfl rfl)
theorem dX7_be_43 : decode cX7_be 43 = .ok (.aload_n 0, 1) := dk_42 (dk_at dksX7_be_1 19 rfl rfl)
theorem dX7_be_44 : decode cX7_be 44 = .ok (.aload_n 1, 1) := dk_43 (dk_at dksX7_be_1 20 rfl rfl)
theorem dX7_be_45 : decode cX7_be 45 = .ok (.getfield 31, 3) := dk_180 0 31 (dk_at dksX7_be_1 21 rfl rfl)
theorem dX7_be_48 : decode cX7_be 48 = .ok (.putfield 31, 3) := dk_181 0 31 (dk_at dksX7_be_2 0 rfl rfl)
theorem dX7_be_51 : decode cX7_be 51 = .ok (.aload_n 0, 1) := dk_42 (dk_at dksX7_be_2 3 rfl rfl)
theorem dX7_be_52 : decode cX7_be 52 = .ok (.aload_n 1, 1) := dk_43 (dk_at dksX7_be_2 4 rfl rfl)
theorem dX7_be_53 : decode cX7_be 53 = .ok (.getfield 35, 3) := dk_180 0 35 (dk_at dksX7_be_2 5 rfl rfl)
theorem dX7_be_56 : decode cX7_be 56 = .ok (.putfield 35, 3) := dk_181 0 35 (dk_at dksX7_be_2 8 rfl rfl)
theorem dX7_be_59 : decode cX7_be 59 = .ok (.aload_n 0, 1) := dk_42 (dk_at dksX7_be_2 11 rfl rfl)
theorem dX7_be_60 : decode cX7_be 60 = .ok (.aload_n 1, 1) := dk_43 (dk_at dksX7_be_2 12 rfl rfl)
theorem dX7_be_61 : decode cX7_be 61 = .ok (.getfield 38, 3) := dk_180 0 38 (dk_at dksX7_be_2 13 rfl rfl)
theorem dX7_be_64 : decode cX7_be 64 = .ok (.putfield 38, 3) := dk_181 0 38 (dk_at dksX7_be_2 16 rfl rfl)
theorem dX7_be_67 : decode cX7_be 67 = .ok (.aload_n 0, 1) := dk_42 (dk_at dksX7_be_2 19 rfl rfl)
theorem dX7_be_68 : decode cX7_be 68 = .ok (.areturn, 1) := dk_176 (dk_at dksX7_be_2 20 rfl rfl)
def dkwX7_goes_5 : List UInt8 := [27, 100, 172]
abbrev dktX7_goes_5 : List UInt8 := dkwX7_goes_5 ++ []
def dkwX7_goes_4 : List UInt8 := [3, 42, 180, 0, 35, 4, 100, 184, 0, 92, 181, 0, 35, 42, 182, 0, 50, 42, 180, 0, 31, 184, 0, 83]
abbrev dktX7_goes_4 : List UInt8 := dkwX7_goes_4 ++ dktX7_goes_5
def dkwX7_goes_3 : List UInt8 := [42, 180, 0, 22, 28, 3, 79, 132, 2, 1, 167, 255, 186, 42, 89, 180, 0, 38, 4, 96, 181, 0, 38, 42]
abbrev dktX7_goes_3 : List UInt8 := dkwX7_goes_3 ++ dktX7_goes_4
def dkwX7_goes_2 : List UInt8 := [180, 0, 3, 42, 180, 0, 22, 28, 46, 42, 180, 0, 19, 28, 46, 42, 3, 182, 0, 71, 182, 0, 75, 79]
abbrev dktX7_goes_2 : List UInt8 := dkwX7_goes_2 ++ dktX7_goes_3
def dkwX7_goes_1 : List UInt8 := [42, 28, 133, 42, 180, 0, 22, 28, 46, 133, 182, 0, 88, 154, 0, 33, 42, 180, 0, 19, 28, 42]
abbrev dktX7_goes_1 : List UInt8 := dkwX7_goes_1 ++ dktX7_goes_2
def dkwX7_goes_0 : List UInt8 := [42, 180, 0, 31, 184, 0, 83, 60, 3, 61, 28, 42, 180, 0, 3, 180, 0, 41, 180, 0, 53, 162, 0, 62]
abbrev dktX7_goes_0 : List UInt8 := dkwX7_goes_0 ++ dktX7_goes_1
theorem dksX7_goes_0 : cX7_goes.data.toList.drop 0 = dktX7_goes_0 := by decide +kernel
theorem dksX7_goes_1 : cX7_goes.data.toList.drop 24 = dktX7_goes_1 := dk_seg dksX7_goes_0 24 rfl rfl
theorem dksX7_goes_2 : cX7_goes.data.toList.drop 46 = dktX7_goes_2 := dk_seg dksX7_goes_1 22 rfl rfl
theorem dksX7_goes_3 : cX7_goes.data.toList.drop 70 = dktX7_goes_3 := dk_seg dksX7_goes_2 24 rfl rfl
theorem dksX7_goes_4 : cX7_goes.data.toList.drop 94 = dktX7_goes_4 := dk_seg dksX7_goes_3 24 rfl rfl
theorem dksX7_goes_5 : cX7_goes.data.toList.drop 118 = dktX7_goes_5 := dk_seg dksX7_goes_4 24 rfl rfl
theorem dX7_goes_0 : decode cX7_goes 0 = .ok (.aload_n 0, 1) := dk_42 (dk_at dksX7_goes_0 0 rfl rfl)
theorem dX7_goes_1 : decode cX7_goes 1 = .ok (.getfield 31, 3) := dk_180 0 31 (dk_at dksX7_goes_0 1 rfl rfl)
theorem dX7_goes_4 : decode cX7_goes 4 = .ok (.invokestatic 83, 3) := dk_184 0 83 (dk_at dksX7_goes_0 4 rfl rfl)
theorem dX7_goes_7 : decode cX7_goes 7 = .ok (.istore_n 1, 1) := dk_60 (dk_at dksX7_goes_0 7 rfl rfl)
theorem dX7_goes_8 : decode cX7_goes 8 = .ok (.iconst 0, 1) := dk_3 (dk_at dksX7_goes_0 8 rfl rfl)
theorem dX7_goes_9 : decode cX7_goes 9 = .ok (.istore_n 2, 1) := dk_61 (dk_at dksX7_goes_0 9 rfl rfl)
theorem dX7_goes_10 : decode cX7_goes 10 = .ok (.iload_n 2, 1) := dk_28 (dk_at dksX7_goes_0 10 rfl rfl)
theorem dX7_goes_11 : decode cX7_goes 11 = .ok (.aload_n 0, 1) := dk_42 (dk_at dksX7_goes_0 11 rfl rfl)
theorem dX7_goes_12 : decode cX7_goes 12 = .ok (.getfield 3, 3) := dk_180 0 3 (dk_at dksX7_goes_0 12 rfl rfl)
theorem dX7_goes_15 : decode cX7_goes 15 = .ok (.getfield 41, 3) := dk_180 0 41 (dk_at dksX7_goes_0 15 rfl rfl)
theorem dX7_goes_18 : decode cX7_goes 18 = .ok (.getfield 53, 3) := dk_180 0 53 (dk_at dksX7_goes_0 18 rfl rfl)
theorem dX7_goes_21 : decode cX7_goes 21 = .ok (.if_icmp .ge 62, 3) := dk_162 0 62 (dk_at dksX7_goes_0 21 rfl rfl)
theorem dX7_goes_24 : decode cX7_goes 24 = .ok (.aload_n 0, 1) := dk_42 (dk_at dksX7_goes_1 0 rfl rfl)
theorem dX7_goes_25 : decode cX7_goes 25 = .ok (.iload_n 2, 1) := dk_28 (dk_at dksX7_goes_1 1 rfl rfl)
theorem dX7_goes_26 : decode cX7_goes 26 = .ok (.i2l, 1) := dk_133 (dk_at dksX7_goes_1 2 rfl rfl)
theorem dX7_goes_27 : decode cX7_goes 27 = .ok (.aload_n 0, 1) := dk_42 (dk_at dksX7_goes_1 3 rfl rfl)
theorem dX7_goes_28 : decode cX7_goes 28 = .ok (.getfield 22, 3) := dk_180 0 22 (dk_at dksX7_goes_1 4 rfl rfl)
theorem dX7_goes_31 : decode cX7_goes 31 = .ok (.iload_n 2, 1) := dk_28 (dk_at dksX7_goes_1 7 rfl rfl)
theorem dX7_goes_32 : decode cX7_goes 32 = .ok (.iaload, 1) := dk_46 (dk_at dksX7_goes_1 8 rfl rfl)
theorem dX7_goes_33 : decode cX7_goes 33 = .ok (.i2l, 1) := dk_133 (dk_at dksX7_goes_1 9 rfl rfl)
theorem dX7_goes_34 : decode cX7_goes 34 = .ok (.invokevirtual 88, 3) := dk_182 0 88 (dk_at dksX7_goes_1 10 rfl rfl)
theorem dX7_goes_37 : decode cX7_goes 37 = .ok (.ifCond .ne 33, 3) := dk_154 0 33 (dk_at dksX7_goes_1 13 rfl rfl)
theorem dX7_goes_40 : decode cX7_goes 40 = .ok (.aload_n 0, 1) := dk_42 (dk_at dksX7_goes_1 16 rfl rfl)
theorem dX7_goes_41 : decode cX7_goes 41 = .ok (.getfield 19, 3) := dk_180 0 19 (dk_at dksX7_goes_1 17 rfl rfl)
theorem dX7_goes_44 : decode cX7_goes 44 = .ok (.iload_n 2, 1) := dk_28 (dk_at dksX7_goes_1 20 rfl rfl)
theorem dX7_goes_45 : decode cX7_goes 45 = .ok (.aload_n 0, 1) := dk_42 (dk_at dksX7_goes_1 21 rfl rfl)
theorem dX7_goes_46 : decode cX7_goes 46 = .ok (.getfield 3, 3) := dk_180 0 3 (dk_at dksX7_goes_2 0 rfl rfl)
theorem dX7_goes_49 : decode cX7_goes 49 = .ok (.aload_n 0, 1) := dk_42 (dk_at dksX7_goes_2 3 rfl rfl)
theorem dX7_goes_50 : decode cX7_goes 50 = .ok (.getfield 22, 3) := dk_180 0 22 (dk_at dksX7_goes_2 4 rfl rfl)
theorem dX7_goes_53 : decode cX7_goes 53 = .ok (.iload_n 2, 1) := dk_28 (dk_at dksX7_goes_2 7 rfl rfl)
theorem dX7_goes_54 : decode cX7_goes 54 = .ok (.iaload, 1) := dk_46 (dk_at dksX7_goes_2 8 rfl rfl)
theorem dX7_goes_55 : decode cX7_goes 55 = .ok (.aload_n 0, 1) := dk_42 (dk_at dksX7_goes_2 9 rfl rfl)
theorem dX7_goes_56 : decode cX7_goes 56 = .ok (.getfield 19, 3) := dk_180 0 19 (dk_at dksX7_goes_2 10 rfl rfl)
theorem dX7_goes_59 : decode cX7_goes 59 = .ok (.iload_n 2, 1) := dk_28 (dk_at dksX7_goes_2 13 rfl rfl)
theorem dX7_goes_60 : decode cX7_goes 60 = .ok (.iaload, 1) := dk_46 (dk_at dksX7_goes_2 14 rfl rfl)
theorem dX7_goes_61 : decode cX7_goes 61 = .ok (.aload_n 0, 1) := dk_42 (dk_at dksX7_goes_2 15 rfl rfl)
theorem dX7_goes_62 : decode cX7_goes 62 = .ok (.iconst 0, 1) := dk_3 (dk_at dksX7_goes_2 16 rfl rfl)
theorem dX7_goes_63 : decode cX7_goes 63 = .ok (.invokevirtual 71, 3) := dk_182 0 71 (dk_at dksX7_goes_2 17 rfl rfl)
theorem dX7_goes_66 : decode cX7_goes 66 = .ok (.invokevirtual 75, 3) := dk_182 0 75 (dk_at dksX7_goes_2 20 rfl rfl)
theorem dX7_goes_69 : decode cX7_goes 69 = .ok (.iastore, 1) := dk_79 (dk_at dksX7_goes_2 23 rfl rfl)
theorem dX7_goes_70 : decode cX7_goes 70 = .ok (.aload_n 0, 1) := dk_42 (dk_at dksX7_goes_3 0 rfl rfl)
theorem dX7_goes_71 : decode cX7_goes 71 = .ok (.getfield 22, 3) := dk_180 0 22 (dk_at dksX7_goes_3 1 rfl rfl)
theorem dX7_goes_74 : decode cX7_goes 74 = .ok (.iload_n 2, 1) := dk_28 (dk_at dksX7_goes_3 4 rfl rfl)
theorem dX7_goes_75 : decode cX7_goes 75 = .ok (.iconst 0, 1) := dk_3 (dk_at dksX7_goes_3 5 rfl rfl)
theorem dX7_goes_76 : decode cX7_goes 76 = .ok (.iastore, 1) := dk_79 (dk_at dksX7_goes_3 6 rfl rfl)
theorem dX7_goes_77 : decode cX7_goes 77 = .ok (.iinc 2 1, 3) := dk_132 2 1 (dk_at dksX7_goes_3 7 rfl rfl)
theorem dX7_goes_80 : decode cX7_goes 80 = .ok (.goto (-70), 3) := dk_167 255 186 (dk_at dksX7_goes_3 10 rfl rfl)
theorem dX7_goes_83 : decode cX7_goes 83 = .ok (.aload_n 0, 1) := dk_42 (dk_at dksX7_goes_3 13 rfl rfl)
theorem dX7_goes_84 : decode cX7_goes 84 = .ok (.dup, 1) := dk_89 (dk_at dksX7_goes_3 14 rfl rfl)
theorem dX7_goes_85 : decode cX7_goes 85 = .ok (.getfield 38, 3) := dk_180 0 38 (dk_at dksX7_goes_3 15 rfl rfl)
theorem dX7_goes_88 : decode cX7_goes 88 = .ok (.iconst 1, 1) := dk_4 (dk_at dksX7_goes_3 18 rfl rfl)
theorem dX7_goes_89 : decode cX7_goes 89 = .ok (.iadd, 1) := dk_96 (dk_at dksX7_goes_3 19 rfl rfl)
theorem dX7_goes_90 : decode cX7_goes 90 = .ok (.putfield 38, 3) := dk_181 0 38 (dk_at dksX7_goes_3 20 rfl rfl)
theorem dX7_goes_93 : decode cX7_goes 93 = .ok (.aload_n 0, 1) := dk_42 (dk_at dksX7_goes_3 23 rfl rfl)
theorem dX7_goes_94 : decode cX7_goes 94 = .ok (.iconst 0, 1) := dk_3 (dk_at dksX7_goes_4 0 rfl rfl)
theorem dX7_goes_95 : decode cX7_goes 95 = .ok (.aload_n 0, 1) := dk_42 (dk_at dksX7_goes_4 1 rfl rfl)
theorem dX7_goes_96 : decode cX7_goes 96 = .ok (.getfield 35, 3) := dk_180 0 35 (dk_at dksX7_goes_4 2 rfl rfl)
theorem dX7_goes_99 : decode cX7_goes 99 = .ok (.iconst 1, 1) := dk_4 (dk_at dksX7_goes_4 5 rfl rfl)
theorem dX7_goes_100 : decode cX7_goes 100 = .ok (.isub, 1) := dk_100 (dk_at dksX7_goes_4 6 rfl rfl)
theorem dX7_goes_101 : decode cX7_goes 101 = .ok (.invokestatic 92, 3) := dk_184 0 92 (dk_at dksX7_goes_4 7 rfl rfl)
theorem dX7_goes_104 : decode cX7_goes 104 = .ok (.putfield 35, 3) := dk_181 0 35 (dk_at dksX7_goes_4 10 rfl rfl)
theorem dX7_goes_107 : decode cX7_goes 107 = .ok (.aload_n 0, 1) := dk_42 (dk_at dksX7_goes_4 13 rfl rfl)
theorem dX7_goes_108 : decode cX7_goes 108 = .ok (.invokevirtual 50, 3) := dk_182 0 50 (dk_at dksX7_goes_4 14 rfl rfl)
theorem dX7_goes_111 : decode cX7_goes 111 = .ok (.aload_n 0, 1) := dk_42 (dk_at dksX7_goes_4 17 rfl rfl)
theorem dX7_goes_112 : decode cX7_goes 112 = .ok (.getfield 31, 3) := dk_180 0 31 (dk_at dksX7_goes_4 18 rfl rfl)
theorem dX7_goes_115 : decode cX7_goes 115 = .ok (.invokestatic 83, 3) := dk_184 0 83 (dk_at dksX7_goes_4 21 rfl rfl)
theorem dX7_goes_118 : decode cX7_goes 118 = .ok (.iload_n 1, 1) := dk_27 (dk_at dksX7_goes_5 0 rfl rfl)
theorem dX7_goes_119 : decode cX7_goes 119 = .ok (.isub, 1) := dk_100 (dk_at dksX7_goes_5 1 rfl rfl)
theorem dX7_goes_120 : decode cX7_goes 120 = .ok (.ireturn, 1) := dk_172 (dk_at dksX7_goes_5 2 rfl rfl)
def dkwX7_why_5 : List UInt8 := [154, 0, 7, 3, 167, 0, 4, 4, 172]
abbrev dktX7_why_5 : List UInt8 := dkwX7_why_5 ++ []
def dkwX7_why_4 : List UInt8 := [180, 0, 3, 180, 0, 41, 180, 0, 112, 133, 148, 155, 0, 15, 31, 20, 0, 106, 113, 20, 0, 115, 148]
abbrev dktX7_why_4 : List UInt8 := dkwX7_why_4 ++ dktX7_why_5
def dkwX7_why_3 : List UInt8 := [180, 0, 3, 180, 0, 41, 180, 0, 62, 133, 148, 155, 0, 5, 4, 172, 31, 20, 0, 106, 113, 42]
abbrev dktX7_why_3 : List UInt8 := dkwX7_why_3 ++ dktX7_why_4
def dkwX7_why_2 : List UInt8 := [172, 31, 20, 0, 108, 20, 0, 110, 184, 0, 65, 153, 0, 27, 31, 20, 0, 108, 101, 20, 0, 106, 109, 42]
abbrev dktX7_why_2 : List UInt8 := dkwX7_why_2 ++ dktX7_why_3
def dkwX7_why_1 : List UInt8 := [9, 20, 0, 104, 184, 0, 65, 153, 0, 18, 42, 31, 20, 0, 106, 109, 31, 20, 0, 106, 113, 182, 0, 88]
abbrev dktX7_why_1 : List UInt8 := dkwX7_why_1 ++ dktX7_why_2
def dkwX7_why_0 : List UInt8 := [31, 20, 0, 98, 148, 153, 0, 16, 31, 20, 0, 100, 20, 0, 102, 184, 0, 65, 153, 0, 5, 3, 172, 31]
abbrev dktX7_why_0 : List UInt8 := dkwX7_why_0 ++ dktX7_why_1
theorem dksX7_why_0 : cX7_why.data.toList.drop 0 = dktX7_why_0 := by decide +kernel
theorem dksX7_why_1 : cX7_why.data.toList.drop 24 = dktX7_why_1 := dk_seg dksX7_why_0 24 rfl rfl
theorem dksX7_why_2 : cX7_why.data.toList.drop 48 = dktX7_why_2 := dk_seg dksX7_why_1 24 rfl rfl
theorem dksX7_why_3 : cX7_why.data.toList.drop 72 = dktX7_why_3 := dk_seg dksX7_why_2 24 rfl rfl
theorem dksX7_why_4 : cX7_why.data.toList.drop 94 = dktX7_why_4 := dk_seg dksX7_why_3 22 rfl rfl
theorem dksX7_why_5 : cX7_why.data.toList.drop 117 = dktX7_why_5 := dk_seg dksX7_why_4 23 rfl rfl
theorem dX7_why_0 : decode cX7_why 0 = .ok (.lload_n 1, 1) := dk_31 (dk_at dksX7_why_0 0 rfl rfl)
theorem dX7_why_1 : decode cX7_why 1 = .ok (.ldc2_w 98, 3) := dk_20 0 98 (dk_at dksX7_why_0 1 rfl rfl)
theorem dX7_why_4 : decode cX7_why 4 = .ok (.lcmp, 1) := dk_148 (dk_at dksX7_why_0 4 rfl rfl)
theorem dX7_why_5 : decode cX7_why 5 = .ok (.ifCond .eq 16, 3) := dk_153 0 16 (dk_at dksX7_why_0 5 rfl rfl)
theorem dX7_why_8 : decode cX7_why 8 = .ok (.lload_n 1, 1) := dk_31 (dk_at dksX7_why_0 8 rfl rfl)
theorem dX7_why_9 : decode cX7_why 9 = .ok (.ldc2_w 100, 3) := dk_20 0 100 (dk_at dksX7_why_0 9 rfl rfl)
theorem dX7_why_12 : decode cX7_why 12 = .ok (.ldc2_w 102, 3) := dk_20 0 102 (dk_at dksX7_why_0 12 rfl rfl)
theorem dX7_why_15 : decode cX7_why 15 = .ok (.invokestatic 65, 3) := dk_184 0 65 (dk_at dksX7_why_0 15 rfl rfl)
theorem dX7_why_18 : decode cX7_why 18 = .ok (.ifCond .eq 5, 3) := dk_153 0 5 (dk_at dksX7_why_0 18 rfl rfl)
theorem dX7_why_21 : decode cX7_why 21 = .ok (.iconst 0, 1) := dk_3 (dk_at dksX7_why_0 21 rfl rfl)
theorem dX7_why_22 : decode cX7_why 22 = .ok (.ireturn, 1) := dk_172 (dk_at dksX7_why_0 22 rfl rfl)
theorem dX7_why_23 : decode cX7_why 23 = .ok (.lload_n 1, 1) := dk_31 (dk_at dksX7_why_0 23 rfl rfl)
theorem dX7_why_24 : decode cX7_why 24 = .ok (.lconst 0, 1) := dk_9 (dk_at dksX7_why_1 0 rfl rfl)
theorem dX7_why_25 : decode cX7_why 25 = .ok (.ldc2_w 104, 3) := dk_20 0 104 (dk_at dksX7_why_1 1 rfl rfl)
theorem dX7_why_28 : decode cX7_why 28 = .ok (.invokestatic 65, 3) := dk_184 0 65 (dk_at dksX7_why_1 4 rfl rfl)
theorem dX7_why_31 : decode cX7_why 31 = .ok (.ifCond .eq 18, 3) := dk_153 0 18 (dk_at dksX7_why_1 7 rfl rfl)
theorem dX7_why_34 : decode cX7_why 34 = .ok (.aload_n 0, 1) := dk_42 (dk_at dksX7_why_1 10 rfl rfl)
theorem dX7_why_35 : decode cX7_why 35 = .ok (.lload_n 1, 1) := dk_31 (dk_at dksX7_why_1 11 rfl rfl)
theorem dX7_why_36 : decode cX7_why 36 = .ok (.ldc2_w 106, 3) := dk_20 0 106 (dk_at dksX7_why_1 12 rfl rfl)
theorem dX7_why_39 : decode cX7_why 39 = .ok (.ldiv, 1) := dk_109 (dk_at dksX7_why_1 15 rfl rfl)
theorem dX7_why_40 : decode cX7_why 40 = .ok (.lload_n 1, 1) := dk_31 (dk_at dksX7_why_1 16 rfl rfl)
theorem dX7_why_41 : decode cX7_why 41 = .ok (.ldc2_w 106, 3) := dk_20 0 106 (dk_at dksX7_why_1 17 rfl rfl)
theorem dX7_why_44 : decode cX7_why 44 = .ok (.lrem, 1) := dk_113 (dk_at dksX7_why_1 20 rfl rfl)
theorem dX7_why_45 : decode cX7_why 45 = .ok (.invokevirtual 88, 3) := dk_182 0 88 (dk_at dksX7_why_1 21 rfl rfl)
theorem dX7_why_48 : decode cX7_why 48 = .ok (.ireturn, 1) := dk_172 (dk_at dksX7_why_2 0 rfl rfl)
theorem dX7_why_49 : decode cX7_why 49 = .ok (.lload_n 1, 1) := dk_31 (dk_at dksX7_why_2 1 rfl rfl)
theorem dX7_why_50 : decode cX7_why 50 = .ok (.ldc2_w 108, 3) := dk_20 0 108 (dk_at dksX7_why_2 2 rfl rfl)
theorem dX7_why_53 : decode cX7_why 53 = .ok (.ldc2_w 110, 3) := dk_20 0 110 (dk_at dksX7_why_2 5 rfl rfl)
theorem dX7_why_56 : decode cX7_why 56 = .ok (.invokestatic 65, 3) := dk_184 0 65 (dk_at dksX7_why_2 8 rfl rfl)
theorem dX7_why_59 : decode cX7_why 59 = .ok (.ifCond .eq 27, 3) := dk_153 0 27 (dk_at dksX7_why_2 11 rfl rfl)
theorem dX7_why_62 : decode cX7_why 62 = .ok (.lload_n 1, 1) := dk_31 (dk_at dksX7_why_2 14 rfl rfl)
theorem dX7_why_63 : decode cX7_why 63 = .ok (.ldc2_w 108, 3) := dk_20 0 108 (dk_at dksX7_why_2 15 rfl rfl)
theorem dX7_why_66 : decode cX7_why 66 = .ok (.lsub, 1) := dk_101 (dk_at dksX7_why_2 18 rfl rfl)
theorem dX7_why_67 : decode cX7_why 67 = .ok (.ldc2_w 106, 3) := dk_20 0 106 (dk_at dksX7_why_2 19 rfl rfl)
theorem dX7_why_70 : decode cX7_why 70 = .ok (.ldiv, 1) := dk_109 (dk_at dksX7_why_2 22 rfl rfl)
theorem dX7_why_71 : decode cX7_why 71 = .ok (.aload_n 0, 1) := dk_42 (dk_at dksX7_why_2 23 rfl rfl)
theorem dX7_why_72 : decode cX7_why 72 = .ok (.getfield 3, 3) := dk_180 0 3 (dk_at dksX7_why_3 0 rfl rfl)
theorem dX7_why_75 : decode cX7_why 75 = .ok (.getfield 41, 3) := dk_180 0 41 (dk_at dksX7_why_3 3 rfl rfl)
theorem dX7_why_78 : decode cX7_why 78 = .ok (.getfield 62, 3) := dk_180 0 62 (dk_at dksX7_why_3 6 rfl rfl)
theorem dX7_why_81 : decode cX7_why 81 = .ok (.i2l, 1) := dk_133 (dk_at dksX7_why_3 9 rfl rfl)
theorem dX7_why_82 : decode cX7_why 82 = .ok (.lcmp, 1) := dk_148 (dk_at dksX7_why_3 10 rfl rfl)
theorem dX7_why_83 : decode cX7_why 83 = .ok (.ifCond .lt 5, 3) := dk_155 0 5 (dk_at dksX7_why_3 11 rfl rfl)
theorem dX7_why_86 : decode cX7_why 86 = .ok (.iconst 1, 1) := dk_4 (dk_at dksX7_why_3 14 rfl rfl)
theorem dX7_why_87 : decode cX7_why 87 = .ok (.ireturn, 1) := dk_172 (dk_at dksX7_why_3 15 rfl rfl)
theorem dX7_why_88 : decode cX7_why 88 = .ok (.lload_n 1, 1) := dk_31 (dk_at dksX7_why_3 16 rfl rfl)
theorem dX7_why_89 : decode cX7_why 89 = .ok (.ldc2_w 106, 3) := dk_20 0 106 (dk_at dksX7_why_3 17 rfl rfl)
theorem dX7_why_92 : decode cX7_why 92 = .ok (.lrem, 1) := dk_113 (dk_at dksX7_why_3 20 rfl rfl)
theorem dX7_why_93 : decode cX7_why 93 = .ok (.aload_n 0, 1) := dk_42 (dk_at dksX7_why_3 21 rfl rfl)
theorem dX7_why_94 : decode cX7_why 94 = .ok (.getfield 3, 3) := dk_180 0 3 (dk_at dksX7_why_4 0 rfl rfl)
theorem dX7_why_97 : decode cX7_why 97 = .ok (.getfield 41, 3) := dk_180 0 41 (dk_at dksX7_why_4 3 rfl rfl)
theorem dX7_why_100 : decode cX7_why 100 = .ok (.getfield 112, 3) := dk_180 0 112 (dk_at dksX7_why_4 6 rfl rfl)
theorem dX7_why_103 : decode cX7_why 103 = .ok (.i2l, 1) := dk_133 (dk_at dksX7_why_4 9 rfl rfl)
theorem dX7_why_104 : decode cX7_why 104 = .ok (.lcmp, 1) := dk_148 (dk_at dksX7_why_4 10 rfl rfl)
theorem dX7_why_105 : decode cX7_why 105 = .ok (.ifCond .lt 15, 3) := dk_155 0 15 (dk_at dksX7_why_4 11 rfl rfl)
theorem dX7_why_108 : decode cX7_why 108 = .ok (.lload_n 1, 1) := dk_31 (dk_at dksX7_why_4 14 rfl rfl)
theorem dX7_why_109 : decode cX7_why 109 = .ok (.ldc2_w 106, 3) := dk_20 0 106 (dk_at dksX7_why_4 15 rfl rfl)
theorem dX7_why_112 : decode cX7_why 112 = .ok (.lrem, 1) := dk_113 (dk_at dksX7_why_4 18 rfl rfl)
theorem dX7_why_113 : decode cX7_why 113 = .ok (.ldc2_w 115, 3) := dk_20 0 115 (dk_at dksX7_why_4 19 rfl rfl)
theorem dX7_why_116 : decode cX7_why 116 = .ok (.lcmp, 1) := dk_148 (dk_at dksX7_why_4 22 rfl rfl)
theorem dX7_why_117 : decode cX7_why 117 = .ok (.ifCond .ne 7, 3) := dk_154 0 7 (dk_at dksX7_why_5 0 rfl rfl)
theorem dX7_why_120 : decode cX7_why 120 = .ok (.iconst 0, 1) := dk_3 (dk_at dksX7_why_5 3 rfl rfl)
theorem dX7_why_121 : decode cX7_why 121 = .ok (.goto 4, 3) := dk_167 0 4 (dk_at dksX7_why_5 4 rfl rfl)
theorem dX7_why_124 : decode cX7_why 124 = .ok (.iconst 1, 1) := dk_4 (dk_at dksX7_why_5 7 rfl rfl)
theorem dX7_why_125 : decode cX7_why 125 = .ok (.ireturn, 1) := dk_172 (dk_at dksX7_why_5 8 rfl rfl)
def dkwX7_does_3 : List UInt8 := [42, 180, 0, 22, 27, 16, 10, 108, 27, 16, 10, 112, 79, 177]
abbrev dktX7_does_3 : List UInt8 := dkwX7_does_3 ++ []
def dkwX7_does_2 : List UInt8 := [16, 10, 108, 27, 16, 10, 112, 16, 9, 160, 0, 7, 2, 167, 0, 7, 27, 16, 10, 112, 79, 167, 0, 16]
abbrev dktX7_does_2 : List UInt8 := dkwX7_does_2 ++ dktX7_does_3
def dkwX7_does_1 : List UInt8 := [17, 0, 200, 100, 181, 0, 35, 167, 0, 54, 27, 16, 100, 161, 0, 35, 42, 180, 0, 15, 27, 16, 100, 100]
abbrev dktX7_does_1 : List UInt8 := dkwX7_does_1 ++ dktX7_does_2
def dkwX7_does_0 : List UInt8 := [27, 2, 160, 0, 11, 42, 182, 0, 117, 87, 167, 0, 73, 27, 17, 0, 200, 161, 0, 15, 42, 27]
abbrev dktX7_does_0 : List UInt8 := dkwX7_does_0 ++ dktX7_does_1
theorem dksX7_does_0 : cX7_does.data.toList.drop 0 = dktX7_does_0 := by decide +kernel
theorem dksX7_does_1 : cX7_does.data.toList.drop 22 = dktX7_does_1 := dk_seg dksX7_does_0 22 rfl rfl
theorem dksX7_does_2 : cX7_does.data.toList.drop 46 = dktX7_does_2 := dk_seg dksX7_does_1 24 rfl rfl
theorem dksX7_does_3 : cX7_does.data.toList.drop 70 = dktX7_does_3 := dk_seg dksX7_does_2 24 rfl rfl
theorem dX7_does_0 : decode cX7_does 0 = .ok (.iload_n 1, 1) := dk_27 (dk_at dksX7_does_0 0 rfl rfl)
theorem dX7_does_1 : decode cX7_does 1 = .ok (.iconst (-1), 1) := dk_2 (dk_at dksX7_does_0 1 rfl rfl)
theorem dX7_does_2 : decode cX7_does 2 = .ok (.if_icmp .ne 11, 3) := dk_160 0 11 (dk_at dksX7_does_0 2 rfl rfl)
theorem dX7_does_5 : decode cX7_does 5 = .ok (.aload_n 0, 1) := dk_42 (dk_at dksX7_does_0 5 rfl rfl)
theorem dX7_does_6 : decode cX7_does 6 = .ok (.invokevirtual 117, 3) := dk_182 0 117 (dk_at dksX7_does_0 6 rfl rfl)
theorem dX7_does_9 : decode cX7_does 9 = .ok (.pop, 1) := dk_87 (dk_at dksX7_does_0 9 rfl rfl)
theorem dX7_does_10 : decode cX7_does 10 = .ok (.goto 73, 3) := dk_167 0 73 (dk_at dksX7_does_0 10 rfl rfl)
theorem dX7_does_13 : decode cX7_does 13 = .ok (.iload_n 1, 1) := dk_27 (dk_at dksX7_does_0 13 rfl rfl)
theorem dX7_does_14 : decode cX7_does 14 = .ok (.sipush 200, 3) := dk_17 0 200 (dk_at dksX7_does_0 14 rfl rfl)
theorem dX7_does_17 : decode cX7_does 17 = .ok (.if_icmp .lt 15, 3) := dk_161 0 15 (dk_at dksX7_does_0 17 rfl rfl)
theorem dX7_does_20 : decode cX7_does 20 = .ok (.aload_n 0, 1) := dk_42 (dk_at dksX7_does_0 20 rfl rfl)
theorem dX7_does_21 : decode cX7_does 21 = .ok (.iload_n 1, 1) := dk_27 (dk_at dksX7_does_0 21 rfl rfl)
theorem dX7_does_22 : decode cX7_does 22 = .ok (.sipush 200, 3) := dk_17 0 200 (dk_at dksX7_does_1 0 rfl rfl)
theorem dX7_does_25 : decode cX7_does 25 = .ok (.isub, 1) := dk_100 (dk_at dksX7_does_1 3 rfl rfl)
theorem dX7_does_26 : decode cX7_does 26 = .ok (.putfield 35, 3) := dk_181 0 35 (dk_at dksX7_does_1 4 rfl rfl)
theorem dX7_does_29 : decode cX7_does 29 = .ok (.goto 54, 3) := dk_167 0 54 (dk_at dksX7_does_1 7 rfl rfl)
theorem dX7_does_32 : decode cX7_does 32 = .ok (.iload_n 1, 1) := dk_27 (dk_at dksX7_does_1 10 rfl rfl)
theorem dX7_does_33 : decode cX7_does 33 = .ok (.bipush 100, 2) := dk_16 100 (dk_at dksX7_does_1 11 rfl rfl)
theorem dX7_does_35 : decode cX7_does 35 = .ok (.if_icmp .lt 35, 3) := dk_161 0 35 (dk_at dksX7_does_1 13 rfl rfl)
theorem dX7_does_38 : decode cX7_does 38 = .ok (.aload_n 0, 1) := dk_42 (dk_at dksX7_does_1 16 rfl rfl)
theorem dX7_does_39 : decode cX7_does 39 = .ok (.getfield 15, 3) := dk_180 0 15 (dk_at dksX7_does_1 17 rfl rfl)
theorem dX7_does_42 : decode cX7_does 42 = .ok (.iload_n 1, 1) := dk_27 (dk_at dksX7_does_1 20 rfl rfl)
theorem dX7_does_43 : decode cX7_does 43 = .ok (.bipush 100, 2) := dk_16 100 (dk_at dksX7_does_1 21 rfl rfl)
theorem dX7_does_45 : decode cX7_does 45 = .ok (.isub, 1) := dk_100 (dk_at dksX7_does_1 23 rfl rfl)
theorem dX7_does_46 : decode cX7_does 46 = .ok (.bipush 10, 2) := dk_16 10 (dk_at dksX7_does_2 0 rfl rfl)
theorem dX7_does_48 : decode cX7_does 48 = .ok (.idiv, 1) := dk_108 (dk_at dksX7_does_2 2 rfl rfl)
theorem dX7_does_49 : decode cX7_does 49 = .ok (.iload_n 1, 1) := dk_27 (dk_at dksX7_does_2 3 rfl rfl)
theorem dX7_does_50 : decode cX7_does 50 = .ok (.bipush 10, 2) := dk_16 10 (dk_at dksX7_does_2 4 rfl rfl)
theorem dX7_does_52 : decode cX7_does 52 = .ok (.irem, 1) := dk_112 (dk_at dksX7_does_2 6 rfl rfl)
theorem dX7_does_53 : decode cX7_does 53 = .ok (.bipush 9, 2) := dk_16 9 (dk_at dksX7_does_2 7 rfl rfl)
theorem dX7_does_55 : decode cX7_does 55 = .ok (.if_icmp .ne 7, 3) := dk_160 0 7 (dk_at dksX7_does_2 9 rfl rfl)
theorem dX7_does_58 : decode cX7_does 58 = .ok (.iconst (-1), 1) := dk_2 (dk_at dksX7_does_2 12 rfl rfl)
theorem dX7_does_59 : decode cX7_does 59 = .ok (.goto 7, 3) := dk_167 0 7 (dk_at dksX7_does_2 13 rfl rfl)
theorem dX7_does_62 : decode cX7_does 62 = .ok (.iload_n 1, 1) := dk_27 (dk_at dksX7_does_2 16 rfl rfl)
theorem dX7_does_63 : decode cX7_does 63 = .ok (.bipush 10, 2) := dk_16 10 (dk_at dksX7_does_2 17 rfl rfl)
theorem dX7_does_65 : decode cX7_does 65 = .ok (.irem, 1) := dk_112 (dk_at dksX7_does_2 19 rfl rfl)
theorem dX7_does_66 : decode cX7_does 66 = .ok (.iastore, 1) := dk_79 (dk_at dksX7_does_2 20 rfl rfl)
theorem dX7_does_67 : decode cX7_does 67 = .ok (.goto 16, 3) := dk_167 0 16 (dk_at dksX7_does_2 21 rfl rfl)
theorem dX7_does_70 : decode cX7_does 70 = .ok (.aload_n 0, 1) := dk_42 (dk_at dksX7_does_3 0 rfl rfl)
theorem dX7_does_71 : decode cX7_does 71 = .ok (.getfield 22, 3) := dk_180 0 22 (dk_at dksX7_does_3 1 rfl rfl)
theorem dX7_does_74 : decode cX7_does 74 = .ok (.iload_n 1, 1) := dk_27 (dk_at dksX7_does_3 4 rfl rfl)
theorem dX7_does_75 : decode cX7_does 75 = .ok (.bipush 10, 2) := dk_16 10 (dk_at dksX7_does_3 5 rfl rfl)
theorem dX7_does_77 : decode cX7_does 77 = .ok (.idiv, 1) := dk_108 (dk_at dksX7_does_3 7 rfl rfl)
theorem dX7_does_78 : decode cX7_does 78 = .ok (.iload_n 1, 1) := dk_27 (dk_at dksX7_does_3 8 rfl rfl)
theorem dX7_does_79 : decode cX7_does 79 = .ok (.bipush 10, 2) := dk_16 10 (dk_at dksX7_does_3 9 rfl rfl)
theorem dX7_does_81 : decode cX7_does 81 = .ok (.irem, 1) := dk_112 (dk_at dksX7_does_3 11 rfl rfl)
theorem dX7_does_82 : decode cX7_does 82 = .ok (.iastore, 1) := dk_79 (dk_at dksX7_does_3 12 rfl rfl)
theorem dX7_does_83 : decode cX7_does 83 = .ok (.return_, 1) := dk_177 (dk_at dksX7_does_3 13 rfl rfl)
theorem dX8_init_0 : decode cX8_init 0 = .ok (.aload_n 0, 1) := by decide +kernel
theorem dX8_init_1 : decode cX8_init 1 = .ok (.invokespecial 1, 3) := by decide +kernel
theorem dX8_init_4 : decode cX8_init 4 = .ok (.return_, 1) := by decide +kernel
def dkwX8_many_2 : List UInt8 := [153, 0, 14, 42, 180, 0, 7, 192, 0, 19, 190, 167, 0, 11, 42, 180, 0, 7, 192, 0, 21, 190, 172]
abbrev dktX8_many_2 : List UInt8 := dkwX8_many_2 ++ []
def dkwX8_many_1 : List UInt8 := [193, 0, 17, 153, 0, 12, 42, 180, 0, 7, 192, 0, 17, 190, 172, 42, 180, 0, 7, 193, 0, 19]
abbrev dktX8_many_1 : List UInt8 := dkwX8_many_1 ++ dktX8_many_2
def dkwX8_many_0 : List UInt8 := [42, 180, 0, 7, 193, 0, 15, 153, 0, 12, 42, 180, 0, 7, 192, 0, 15, 190, 172, 42, 180, 0, 7]
abbrev dktX8_many_0 : List UInt8 := dkwX8_many_0 ++ dktX8_many_1
theorem dksX8_many_0 : cX8_many.data.toList.drop 0 = dktX8_many_0 := by decide +kernel
theorem dksX8_many_1 : cX8_many.data.toList.drop 23 = dktX8_many_1 := dk_seg dksX8_many_0 23 rfl rfl
theorem dksX8_many_2 : cX8_many.data.toList.drop 45 = dktX8_many_2 := dk_seg dksX8_many_1 22 rfl rfl
theorem dX8_many_0 : decode cX8_many 0 = .ok (.aload_n 0, 1) := dk_42 (dk_at dksX8_many_0 0 rfl rfl)
theorem dX8_many_1 : decode cX8_many 1 = .ok (.getfield 7, 3) := dk_180 0 7 (dk_at dksX8_many_0 1 rfl rfl)
theorem dX8_many_4 : decode cX8_many 4 = .ok (.instanceof 15, 3) := dk_193 0 15 (dk_at dksX8_many_0 4 rfl rfl)
theorem dX8_many_7 : decode cX8_many 7 = .ok (.ifCond .eq 12, 3) := dk_153 0 12 (dk_at dksX8_many_0 7 rfl rfl)
theorem dX8_many_10 : decode cX8_many 10 = .ok (.aload_n 0, 1) := dk_42 (dk_at dksX8_many_0 10 rfl rfl)
theorem dX8_many_11 : decode cX8_many 11 = .ok (.getfield 7, 3) := dk_180 0 7 (dk_at dksX8_many_0 11 rfl rfl)
theorem dX8_many_14 : decode cX8_many 14 = .ok (.checkcast 15, 3) := dk_192 0 15 (dk_at dksX8_many_0 14 rfl rfl)
theorem dX8_many_17 : decode cX8_many 17 = .ok (.arraylength, 1) := dk_190 (dk_at dksX8_many_0 17 rfl rfl)
theorem dX8_many_18 : decode cX8_many 18 = .ok (.ireturn, 1) := dk_172 (dk_at dksX8_many_0 18 rfl rfl)
theorem dX8_many_19 : decode cX8_many 19 = .ok (.aload_n 0, 1) := dk_42 (dk_at dksX8_many_0 19 rfl rfl)
theorem dX8_many_20 : decode cX8_many 20 = .ok (.getfield 7, 3) := dk_180 0 7 (dk_at dksX8_many_0 20 rfl rfl)
theorem dX8_many_23 : decode cX8_many 23 = .ok (.instanceof 17, 3) := dk_193 0 17 (dk_at dksX8_many_1 0 rfl rfl)
theorem dX8_many_26 : decode cX8_many 26 = .ok (.ifCond .eq 12, 3) := dk_153 0 12 (dk_at dksX8_many_1 3 rfl rfl)
theorem dX8_many_29 : decode cX8_many 29 = .ok (.aload_n 0, 1) := dk_42 (dk_at dksX8_many_1 6 rfl rfl)
theorem dX8_many_30 : decode cX8_many 30 = .ok (.getfield 7, 3) := dk_180 0 7 (dk_at dksX8_many_1 7 rfl rfl)
theorem dX8_many_33 : decode cX8_many 33 = .ok (.checkcast 17, 3) := dk_192 0 17 (dk_at dksX8_many_1 10 rfl rfl)
theorem dX8_many_36 : decode cX8_many 36 = .ok (.arraylength, 1) := dk_190 (dk_at dksX8_many_1 13 rfl rfl)
theorem dX8_many_37 : decode cX8_many 37 = .ok (.ireturn, 1) := dk_172 (dk_at dksX8_many_1 14 rfl rfl)
theorem dX8_many_38 : decode cX8_many 38 = .ok (.aload_n 0, 1) := dk_42 (dk_at dksX8_many_1 15 rfl rfl)
theorem dX8_many_39 : decode cX8_many 39 = .ok (.getfield 7, 3) := dk_180 0 7 (dk_at dksX8_many_1 16 rfl rfl)
theorem dX8_many_42 : decode cX8_many 42 = .ok (.instanceof 19, 3) := dk_193 0 19 (dk_at dksX8_many_1 19 rfl rfl)
theorem dX8_many_45 : decode cX8_many 45 = .ok (.ifCond .eq 14, 3) := dk_153 0 14 (dk_at dksX8_many_2 0 rfl rfl)
theorem dX8_many_48 : decode cX8_many 48 = .ok (.aload_n 0, 1) := dk_42 (dk_at dksX8_many_2 3 rfl rfl)
theorem dX8_many_49 : decode cX8_many 49 = .ok (.getfield 7, 3) := dk_180 0 7 (dk_at dksX8_many_2 4 rfl rfl)
theorem dX8_many_52 : decode cX8_many 52 = .ok (.checkcast 19, 3) := dk_192 0 19 (dk_at dksX8_many_2 7 rfl rfl)
theorem dX8_many_55 : decode cX8_many 55 = .ok (.arraylength, 1) := dk_190 (dk_at dksX8_many_2 10 rfl rfl)
theorem dX8_many_56 : decode cX8_many 56 = .ok (.goto 11, 3) := dk_167 0 11 (dk_at dksX8_many_2 11 rfl rfl)
theorem dX8_many_59 : decode cX8_many 59 = .ok (.aload_n 0, 1) := dk_42 (dk_at dksX8_many_2 14 rfl rfl)
theorem dX8_many_60 : decode cX8_many 60 = .ok (.getfield 7, 3) := dk_180 0 7 (dk_at dksX8_many_2 15 rfl rfl)
theorem dX8_many_63 : decode cX8_many 63 = .ok (.checkcast 21, 3) := dk_192 0 21 (dk_at dksX8_many_2 18 rfl rfl)
theorem dX8_many_66 : decode cX8_many 66 = .ok (.arraylength, 1) := dk_190 (dk_at dksX8_many_2 21 rfl rfl)
theorem dX8_many_67 : decode cX8_many 67 = .ok (.ireturn, 1) := dk_172 (dk_at dksX8_many_2 22 rfl rfl)
def dkwX8_number_3 : List UInt8 := [192, 0, 21, 27, 47, 173]
abbrev dktX8_number_3 : List UInt8 := dkwX8_number_3 ++ []
def dkwX8_number_2 : List UInt8 := [193, 0, 19, 153, 0, 16, 42, 180, 0, 7, 192, 0, 19, 27, 46, 133, 167, 0, 12, 42, 180, 0, 7]
abbrev dktX8_number_2 : List UInt8 := dkwX8_number_2 ++ dktX8_number_3
def dkwX8_number_1 : List UInt8 := [180, 0, 7, 193, 0, 17, 153, 0, 14, 42, 180, 0, 7, 192, 0, 17, 27, 53, 133, 173, 42, 180, 0, 7]
abbrev dktX8_number_1 : List UInt8 := dkwX8_number_1 ++ dktX8_number_2
def dkwX8_number_0 : List UInt8 := [42, 180, 0, 7, 193, 0, 15, 153, 0, 14, 42, 180, 0, 7, 192, 0, 15, 27, 51, 133, 173, 42]
abbrev dktX8_number_0 : List UInt8 := dkwX8_number_0 ++ dktX8_number_1
theorem dksX8_number_0 : cX8_number.data.toList.drop 0 = dktX8_number_0 := by decide +kernel
theorem dksX8_number_1 : cX8_number.data.toList.drop 22 = dktX8_number_1 := dk_seg dksX8_number_0 22 rfl rfl
theorem dksX8_number_2 : cX8_number.data.toList.drop 46 = dktX8_number_2 := dk_seg dksX8_number_1 24 rfl rfl
theorem dksX8_number_3 : cX8_number.data.toList.drop 69 = dktX8_number_3 := dk_seg dksX8_number_2 23 rfl rfl
theorem dX8_number_0 : decode cX8_number 0 = .ok (.aload_n 0, 1) := dk_42 (dk_at dksX8_number_0 0 rfl rfl)
theorem dX8_number_1 : decode cX8_number 1 = .ok (.getfield 7, 3) := dk_180 0 7 (dk_at dksX8_number_0 1 rfl rfl)
theorem dX8_number_4 : decode cX8_number 4 = .ok (.instanceof 15, 3) := dk_193 0 15 (dk_at dksX8_number_0 4 rfl rfl)
theorem dX8_number_7 : decode cX8_number 7 = .ok (.ifCond .eq 14, 3) := dk_153 0 14 (dk_at dksX8_number_0 7 rfl rfl)
theorem dX8_number_10 : decode cX8_number 10 = .ok (.aload_n 0, 1) := dk_42 (dk_at dksX8_number_0 10 rfl rfl)
theorem dX8_number_11 : decode cX8_number 11 = .ok (.getfield 7, 3) := dk_180 0 7 (dk_at dksX8_number_0 11 rfl rfl)
theorem dX8_number_14 : decode cX8_number 14 = .ok (.checkcast 15, 3) := dk_192 0 15 (dk_at dksX8_number_0 14 rfl rfl)
theorem dX8_number_17 : decode cX8_number 17 = .ok (.iload_n 1, 1) := dk_27 (dk_at dksX8_number_0 17 rfl rfl)
theorem dX8_number_18 : decode cX8_number 18 = .ok (.baload, 1) := dk_51 (dk_at dksX8_number_0 18 rfl rfl)
theorem dX8_number_19 : decode cX8_number 19 = .ok (.i2l, 1) := dk_133 (dk_at dksX8_number_0 19 rfl rfl)
theorem dX8_number_20 : decode cX8_number 20 = .ok (.lreturn, 1) := dk_173 (dk_at dksX8_number_0 20 rfl rfl)
theorem dX8_number_21 : decode cX8_number 21 = .ok (.aload_n 0, 1) := dk_42 (dk_at dksX8_number_0 21 rfl rfl)
theorem dX8_number_22 : decode cX8_number 22 = .ok (.getfield 7, 3) := dk_180 0 7 (dk_at dksX8_number_1 0 rfl rfl)
theorem dX8_number_25 : decode cX8_number 25 = .ok (.instanceof 17, 3) := dk_193 0 17 (dk_at dksX8_number_1 3 rfl rfl)
theorem dX8_number_28 : decode cX8_number 28 = .ok (.ifCond .eq 14, 3) := dk_153 0 14 (dk_at dksX8_number_1 6 rfl rfl)
theorem dX8_number_31 : decode cX8_number 31 = .ok (.aload_n 0, 1) := dk_42 (dk_at dksX8_number_1 9 rfl rfl)
theorem dX8_number_32 : decode cX8_number 32 = .ok (.getfield 7, 3) := dk_180 0 7 (dk_at dksX8_number_1 10 rfl rfl)
theorem dX8_number_35 : decode cX8_number 35 = .ok (.checkcast 17, 3) := dk_192 0 17 (dk_at dksX8_number_1 13 rfl rfl)
theorem dX8_number_38 : decode cX8_number 38 = .ok (.iload_n 1, 1) := dk_27 (dk_at dksX8_number_1 16 rfl rfl)
theorem dX8_number_39 : decode cX8_number 39 = .ok (.saload, 1) := dk_53 (dk_at dksX8_number_1 17 rfl rfl)
theorem dX8_number_40 : decode cX8_number 40 = .ok (.i2l, 1) := dk_133 (dk_at dksX8_number_1 18 rfl rfl)
theorem dX8_number_41 : decode cX8_number 41 = .ok (.lreturn, 1) := dk_173 (dk_at dksX8_number_1 19 rfl rfl)
theorem dX8_number_42 : decode cX8_number 42 = .ok (.aload_n 0, 1) := dk_42 (dk_at dksX8_number_1 20 rfl rfl)
theorem dX8_number_43 : decode cX8_number 43 = .ok (.getfield 7, 3) := dk_180 0 7 (dk_at dksX8_number_1 21 rfl rfl)
theorem dX8_number_46 : decode cX8_number 46 = .ok (.instanceof 19, 3) := dk_193 0 19 (dk_at dksX8_number_2 0 rfl rfl)
theorem dX8_number_49 : decode cX8_number 49 = .ok (.ifCond .eq 16, 3) := dk_153 0 16 (dk_at dksX8_number_2 3 rfl rfl)
theorem dX8_number_52 : decode cX8_number 52 = .ok (.aload_n 0, 1) := dk_42 (dk_at dksX8_number_2 6 rfl rfl)
theorem dX8_number_53 : decode cX8_number 53 = .ok (.getfield 7, 3) := dk_180 0 7 (dk_at dksX8_number_2 7 rfl rfl)
theorem dX8_number_56 : decode cX8_number 56 = .ok (.checkcast 19, 3) := dk_192 0 19 (dk_at dksX8_number_2 10 rfl rfl)
theorem dX8_number_59 : decode cX8_number 59 = .ok (.iload_n 1, 1) := dk_27 (dk_at dksX8_number_2 13 rfl rfl)
theorem dX8_number_60 : decode cX8_number 60 = .ok (.iaload, 1) := dk_46 (dk_at dksX8_number_2 14 rfl rfl)
theorem dX8_number_61 : decode cX8_number 61 = .ok (.i2l, 1) := dk_133 (dk_at dksX8_number_2 15 rfl rfl)
theorem dX8_number_62 : decode cX8_number 62 = .ok (.goto 12, 3) := dk_167 0 12 (dk_at dksX8_number_2 16 rfl rfl)
theorem dX8_number_65 : decode cX8_number 65 = .ok (.aload_n 0, 1) := dk_42 (dk_at dksX8_number_2 19 rfl rfl)
theorem dX8_number_66 : decode cX8_number 66 = .ok (.getfield 7, 3) := dk_180 0 7 (dk_at dksX8_number_2 20 rfl rfl)
theorem dX8_number_69 : decode cX8_number 69 = .ok (.checkcast 21, 3) := dk_192 0 21 (dk_at dksX8_number_3 0 rfl rfl)
theorem dX8_number_72 : decode cX8_number 72 = .ok (.iload_n 1, 1) := dk_27 (dk_at dksX8_number_3 3 rfl rfl)
theorem dX8_number_73 : decode cX8_number 73 = .ok (.laload, 1) := dk_47 (dk_at dksX8_number_3 4 rfl rfl)
theorem dX8_number_74 : decode cX8_number 74 = .ok (.lreturn, 1) := dk_173 (dk_at dksX8_number_3 5 rfl rfl)
def dkwX8_begins_3 : List UInt8 := [181, 0, 7, 167, 0, 10, 42, 28, 188, 11, 181, 0, 7, 4, 172, 78, 3, 172]
abbrev dktX8_begins_3 : List UInt8 := dkwX8_begins_3 ++ []
def dkwX8_begins_2 : List UInt8 := [42, 28, 188, 8, 181, 0, 7, 167, 0, 30, 42, 28, 188, 9, 181, 0, 7, 167, 0, 20, 42, 28, 188, 10]
abbrev dktX8_begins_2 : List UInt8 := dkwX8_begins_2 ++ dktX8_begins_3
def dkwX8_begins_1 : List UInt8 := [170, 0, 0, 0, 0, 0, 57, 0, 0, 0, 0, 0, 0, 0, 2, 0, 0, 0, 27, 0, 0, 0, 37, 0, 0, 0, 47]
abbrev dktX8_begins_1 : List UInt8 := dkwX8_begins_1 ++ dktX8_begins_2
def dkwX8_begins_0 : List UInt8 := [27]
abbrev dktX8_begins_0 : List UInt8 := dkwX8_begins_0 ++ dktX8_begins_1
theorem dksX8_begins_0 : cX8_begins.data.toList.drop 0 = dktX8_begins_0 := by decide +kernel
theorem dksX8_begins_1 : cX8_begins.data.toList.drop 1 = dktX8_begins_1 := dk_seg dksX8_begins_0 1 rfl rfl
theorem dksX8_begins_2 : cX8_begins.data.toList.drop 28 = dktX8_begins_2 := dk_seg dksX8_begins_1 27 rfl rfl
theorem dksX8_begins_3 : cX8_begins.data.toList.drop 52 = dktX8_begins_3 := dk_seg dksX8_begins_2 24 rfl rfl
theorem dX8_begins_0 : decode cX8_begins 0 = .ok (.iload_n 1, 1) := dk_27 (dk_at dksX8_begins_0 0 rfl rfl)
theorem dX8_begins_1 : decode cX8_begins 1 = .ok (.tableswitch 57 0 2 #[27, 37, 47], 27) := by decide +kernel
theorem dX8_begins_28 : decode cX8_begins 28 = .ok (.aload_n 0, 1) := dk_42 (dk_at dksX8_begins_2 0 rfl rfl)
theorem dX8_begins_29 : decode cX8_begins 29 = .ok (.iload_n 2, 1) := dk_28 (dk_at dksX8_begins_2 1 rfl rfl)
theorem dX8_begins_30 : decode cX8_begins 30 = .ok (.newarray .byte, 2) := dk_188_8 (dk_at dksX8_begins_2 2 rfl rfl)
theorem dX8_begins_32 : decode cX8_begins 32 = .ok (.putfield 7, 3) := dk_181 0 7 (dk_at dksX8_begins_2 4 rfl rfl)
theorem dX8_begins_35 : decode cX8_begins 35 = .ok (.goto 30, 3) := dk_167 0 30 (dk_at dksX8_begins_2 7 rfl rfl)
theorem dX8_begins_38 : decode cX8_begins 38 = .ok (.aload_n 0, 1) := dk_42 (dk_at dksX8_begins_2 10 rfl rfl)
theorem dX8_begins_39 : decode cX8_begins 39 = .ok (.iload_n 2, 1) := dk_28 (dk_at dksX8_begins_2 11 rfl rfl)
theorem dX8_begins_40 : decode cX8_begins 40 = .ok (.newarray .short, 2) := dk_188_9 (dk_at dksX8_begins_2 12 rfl rfl)
theorem dX8_begins_42 : decode cX8_begins 42 = .ok (.putfield 7, 3) := dk_181 0 7 (dk_at dksX8_begins_2 14 rfl rfl)
theorem dX8_begins_45 : decode cX8_begins 45 = .ok (.goto 20, 3) := dk_167 0 20 (dk_at dksX8_begins_2 17 rfl rfl)
theorem dX8_begins_48 : decode cX8_begins 48 = .ok (.aload_n 0, 1) := dk_42 (dk_at dksX8_begins_2 20 rfl rfl)
theorem dX8_begins_49 : decode cX8_begins 49 = .ok (.iload_n 2, 1) := dk_28 (dk_at dksX8_begins_2 21 rfl rfl)
theorem dX8_begins_50 : decode cX8_begins 50 = .ok (.newarray .int, 2) := dk_188_10 (dk_at dksX8_begins_2 22 rfl rfl)
theorem dX8_begins_52 : decode cX8_begins 52 = .ok (.putfield 7, 3) := dk_181 0 7 (dk_at dksX8_begins_3 0 rfl rfl)
theorem dX8_begins_55 : decode cX8_begins 55 = .ok (.goto 10, 3) := dk_167 0 10 (dk_at dksX8_begins_3 3 rfl rfl)
theorem dX8_begins_58 : decode cX8_begins 58 = .ok (.aload_n 0, 1) := dk_42 (dk_at dksX8_begins_3 6 rfl rfl)
theorem dX8_begins_59 : decode cX8_begins 59 = .ok (.iload_n 2, 1) := dk_28 (dk_at dksX8_begins_3 7 rfl rfl)
theorem dX8_begins_60 : decode cX8_begins 60 = .ok (.newarray .long, 2) := dk_188_11 (dk_at dksX8_begins_3 8 rfl rfl)
theorem dX8_begins_62 : decode cX8_begins 62 = .ok (.putfield 7, 3) := dk_181 0 7 (dk_at dksX8_begins_3 10 rfl rfl)
theorem dX8_begins_65 : decode cX8_begins 65 = .ok (.iconst 1, 1) := dk_4 (dk_at dksX8_begins_3 13 rfl rfl)
theorem dX8_begins_66 : decode cX8_begins 66 = .ok (.ireturn, 1) := dk_172 (dk_at dksX8_begins_3 14 rfl rfl)
theorem dX8_begins_67 : decode cX8_begins 67 = .ok (.astore_n 3, 1) := dk_78 (dk_at dksX8_begins_3 15 rfl rfl)
theorem dX8_begins_68 : decode cX8_begins 68 = .ok (.iconst 0, 1) := dk_3 (dk_at dksX8_begins_3 16 rfl rfl)
theorem dX8_begins_69 : decode cX8_begins 69 = .ok (.ireturn, 1) := dk_172 (dk_at dksX8_begins_3 17 rfl rfl)
def dkwX8_puts_3 : List UInt8 := [79, 167, 0, 13, 42, 180, 0, 7, 192, 0, 21, 27, 32, 80, 177]
abbrev dktX8_puts_3 : List UInt8 := dkwX8_puts_3 ++ []
def dkwX8_puts_2 : List UInt8 := [86, 167, 0, 37, 42, 180, 0, 7, 193, 0, 19, 153, 0, 17, 42, 180, 0, 7, 192, 0, 19, 27, 32, 136]
abbrev dktX8_puts_2 : List UInt8 := dkwX8_puts_2 ++ dktX8_puts_3
def dkwX8_puts_1 : List UInt8 := [167, 0, 62, 42, 180, 0, 7, 193, 0, 17, 153, 0, 18, 42, 180, 0, 7, 192, 0, 17, 27, 32, 136, 147]
abbrev dktX8_puts_1 : List UInt8 := dkwX8_puts_1 ++ dktX8_puts_2
def dkwX8_puts_0 : List UInt8 := [42, 180, 0, 7, 193, 0, 15, 153, 0, 18, 42, 180, 0, 7, 192, 0, 15, 27, 32, 136, 145, 84]
abbrev dktX8_puts_0 : List UInt8 := dkwX8_puts_0 ++ dktX8_puts_1
theorem dksX8_puts_0 : cX8_puts.data.toList.drop 0 = dktX8_puts_0 := by decide +kernel
theorem dksX8_puts_1 : cX8_puts.data.toList.drop 22 = dktX8_puts_1 := dk_seg dksX8_puts_0 22 rfl rfl
theorem dksX8_puts_2 : cX8_puts.data.toList.drop 46 = dktX8_puts_2 := dk_seg dksX8_puts_1 24 rfl rfl
theorem dksX8_puts_3 : cX8_puts.data.toList.drop 70 = dktX8_puts_3 := dk_seg dksX8_puts_2 24 rfl rfl
theorem dX8_puts_0 : decode cX8_puts 0 = .ok (.aload_n 0, 1) := dk_42 (dk_at dksX8_puts_0 0 rfl rfl)
theorem dX8_puts_1 : decode cX8_puts 1 = .ok (.getfield 7, 3) := dk_180 0 7 (dk_at dksX8_puts_0 1 rfl rfl)
theorem dX8_puts_4 : decode cX8_puts 4 = .ok (.instanceof 15, 3) := dk_193 0 15 (dk_at dksX8_puts_0 4 rfl rfl)
theorem dX8_puts_7 : decode cX8_puts 7 = .ok (.ifCond .eq 18, 3) := dk_153 0 18 (dk_at dksX8_puts_0 7 rfl rfl)
theorem dX8_puts_10 : decode cX8_puts 10 = .ok (.aload_n 0, 1) := dk_42 (dk_at dksX8_puts_0 10 rfl rfl)
theorem dX8_puts_11 : decode cX8_puts 11 = .ok (.getfield 7, 3) := dk_180 0 7 (dk_at dksX8_puts_0 11 rfl rfl)
theorem dX8_puts_14 : decode cX8_puts 14 = .ok (.checkcast 15, 3) := dk_192 0 15 (dk_at dksX8_puts_0 14 rfl rfl)
theorem dX8_puts_17 : decode cX8_puts 17 = .ok (.iload_n 1, 1) := dk_27 (dk_at dksX8_puts_0 17 rfl rfl)
theorem dX8_puts_18 : decode cX8_puts 18 = .ok (.lload_n 2, 1) := dk_32 (dk_at dksX8_puts_0 18 rfl rfl)
theorem dX8_puts_19 : decode cX8_puts 19 = .ok (.l2i, 1) := dk_136 (dk_at dksX8_puts_0 19 rfl rfl)
theorem dX8_puts_20 : decode cX8_puts 20 = .ok (.i2b, 1) := dk_145 (dk_at dksX8_puts_0 20 rfl rfl)
theorem dX8_puts_21 : decode cX8_puts 21 = .ok (.bastore, 1) := dk_84 (dk_at dksX8_puts_0 21 rfl rfl)
theorem dX8_puts_22 : decode cX8_puts 22 = .ok (.goto 62, 3) := dk_167 0 62 (dk_at dksX8_puts_1 0 rfl rfl)
theorem dX8_puts_25 : decode cX8_puts 25 = .ok (.aload_n 0, 1) := dk_42 (dk_at dksX8_puts_1 3 rfl rfl)
theorem dX8_puts_26 : decode cX8_puts 26 = .ok (.getfield 7, 3) := dk_180 0 7 (dk_at dksX8_puts_1 4 rfl rfl)
theorem dX8_puts_29 : decode cX8_puts 29 = .ok (.instanceof 17, 3) := dk_193 0 17 (dk_at dksX8_puts_1 7 rfl rfl)
theorem dX8_puts_32 : decode cX8_puts 32 = .ok (.ifCond .eq 18, 3) := dk_153 0 18 (dk_at dksX8_puts_1 10 rfl rfl)
theorem dX8_puts_35 : decode cX8_puts 35 = .ok (.aload_n 0, 1) := dk_42 (dk_at dksX8_puts_1 13 rfl rfl)
theorem dX8_puts_36 : decode cX8_puts 36 = .ok (.getfield 7, 3) := dk_180 0 7 (dk_at dksX8_puts_1 14 rfl rfl)
theorem dX8_puts_39 : decode cX8_puts 39 = .ok (.checkcast 17, 3) := dk_192 0 17 (dk_at dksX8_puts_1 17 rfl rfl)
theorem dX8_puts_42 : decode cX8_puts 42 = .ok (.iload_n 1, 1) := dk_27 (dk_at dksX8_puts_1 20 rfl rfl)
theorem dX8_puts_43 : decode cX8_puts 43 = .ok (.lload_n 2, 1) := dk_32 (dk_at dksX8_puts_1 21 rfl rfl)
theorem dX8_puts_44 : decode cX8_puts 44 = .ok (.l2i, 1) := dk_136 (dk_at dksX8_puts_1 22 rfl rfl)
theorem dX8_puts_45 : decode cX8_puts 45 = .ok (.i2s, 1) := dk_147 (dk_at dksX8_puts_1 23 rfl rfl)
theorem dX8_puts_46 : decode cX8_puts 46 = .ok (.sastore, 1) := dk_86 (dk_at dksX8_puts_2 0 rfl rfl)
theorem dX8_puts_47 : decode cX8_puts 47 = .ok (.goto 37, 3) := dk_167 0 37 (dk_at dksX8_puts_2 1 rfl rfl)
theorem dX8_puts_50 : decode cX8_puts 50 = .ok (.aload_n 0, 1) := dk_42 (dk_at dksX8_puts_2 4 rfl rfl)
theorem dX8_puts_51 : decode cX8_puts 51 = .ok (.getfield 7, 3) := dk_180 0 7 (dk_at dksX8_puts_2 5 rfl rfl)
theorem dX8_puts_54 : decode cX8_puts 54 = .ok (.instanceof 19, 3) := dk_193 0 19 (dk_at dksX8_puts_2 8 rfl rfl)
theorem dX8_puts_57 : decode cX8_puts 57 = .ok (.ifCond .eq 17, 3) := dk_153 0 17 (dk_at dksX8_puts_2 11 rfl rfl)
theorem dX8_puts_60 : decode cX8_puts 60 = .ok (.aload_n 0, 1) := dk_42 (dk_at dksX8_puts_2 14 rfl rfl)
theorem dX8_puts_61 : decode cX8_puts 61 = .ok (.getfield 7, 3) := dk_180 0 7 (dk_at dksX8_puts_2 15 rfl rfl)
theorem dX8_puts_64 : decode cX8_puts 64 = .ok (.checkcast 19, 3) := dk_192 0 19 (dk_at dksX8_puts_2 18 rfl rfl)
theorem dX8_puts_67 : decode cX8_puts 67 = .ok (.iload_n 1, 1) := dk_27 (dk_at dksX8_puts_2 21 rfl rfl)
theorem dX8_puts_68 : decode cX8_puts 68 = .ok (.lload_n 2, 1) := dk_32 (dk_at dksX8_puts_2 22 rfl rfl)
theorem dX8_puts_69 : decode cX8_puts 69 = .ok (.l2i, 1) := dk_136 (dk_at dksX8_puts_2 23 rfl rfl)
theorem dX8_puts_70 : decode cX8_puts 70 = .ok (.iastore, 1) := dk_79 (dk_at dksX8_puts_3 0 rfl rfl)
theorem dX8_puts_71 : decode cX8_puts 71 = .ok (.goto 13, 3) := dk_167 0 13 (dk_at dksX8_puts_3 1 rfl rfl)
theorem dX8_puts_74 : decode cX8_puts 74 = .ok (.aload_n 0, 1) := dk_42 (dk_at dksX8_puts_3 4 rfl rfl)
theorem dX8_puts_75 : decode cX8_puts 75 = .ok (.getfield 7, 3) := dk_180 0 7 (dk_at dksX8_puts_3 5 rfl rfl)
theorem dX8_puts_78 : decode cX8_puts 78 = .ok (.checkcast 21, 3) := dk_192 0 21 (dk_at dksX8_puts_3 8 rfl rfl)
theorem dX8_puts_81 : decode cX8_puts 81 = .ok (.iload_n 1, 1) := dk_27 (dk_at dksX8_puts_3 11 rfl rfl)
theorem dX8_puts_82 : decode cX8_puts 82 = .ok (.lload_n 2, 1) := dk_32 (dk_at dksX8_puts_3 12 rfl rfl)
theorem dX8_puts_83 : decode cX8_puts 83 = .ok (.lastore, 1) := dk_80 (dk_at dksX8_puts_3 13 rfl rfl)
theorem dX8_puts_84 : decode cX8_puts 84 = .ok (.return_, 1) := dk_177 (dk_at dksX8_puts_3 14 rfl rfl)
def dkwX10_init_1 : List UInt8 := [181, 0, 22, 42, 28, 181, 0, 26, 177]
abbrev dktX10_init_1 : List UInt8 := dkwX10_init_1 ++ []
def dkwX10_init_0 : List UInt8 := [42, 43, 181, 0, 3, 42, 183, 0, 9, 42, 187, 0, 15, 89, 183, 0, 17, 181, 0, 18, 42, 2]
abbrev dktX10_init_0 : List UInt8 := dkwX10_init_0 ++ dktX10_init_1
theorem dksX10_init_0 : cX10_init.data.toList.drop 0 = dktX10_init_0 := by decide +kernel
theorem dksX10_init_1 : cX10_init.data.toList.drop 22 = dktX10_init_1 := dk_seg dksX10_init_0 22 rfl rfl
theorem dX10_init_0 : decode cX10_init 0 = .ok (.aload_n 0, 1) := dk_42 (dk_at dksX10_init_0 0 rfl rfl)
theorem dX10_init_1 : decode cX10_init 1 = .ok (.aload_n 1, 1) := dk_43 (dk_at dksX10_init_0 1 rfl rfl)
theorem dX10_init_2 : decode cX10_init 2 = .ok (.putfield 3, 3) := dk_181 0 3 (dk_at dksX10_init_0 2 rfl rfl)
theorem dX10_init_5 : decode cX10_init 5 = .ok (.aload_n 0, 1) := dk_42 (dk_at dksX10_init_0 5 rfl rfl)
theorem dX10_init_6 : decode cX10_init 6 = .ok (.invokespecial 9, 3) := dk_183 0 9 (dk_at dksX10_init_0 6 rfl rfl)
theorem dX10_init_9 : decode cX10_init 9 = .ok (.aload_n 0, 1) := dk_42 (dk_at dksX10_init_0 9 rfl rfl)
theorem dX10_init_10 : decode cX10_init 10 = .ok (.new 15, 3) := dk_187 0 15 (dk_at dksX10_init_0 10 rfl rfl)
theorem dX10_init_13 : decode cX10_init 13 = .ok (.dup, 1) := dk_89 (dk_at dksX10_init_0 13 rfl rfl)
theorem dX10_init_14 : decode cX10_init 14 = .ok (.invokespecial 17, 3) := dk_183 0 17 (dk_at dksX10_init_0 14 rfl rfl)
theorem dX10_init_17 : decode cX10_init 17 = .ok (.putfield 18, 3) := dk_181 0 18 (dk_at dksX10_init_0 17 rfl rfl)
theorem dX10_init_20 : decode cX10_init 20 = .ok (.aload_n 0, 1) := dk_42 (dk_at dksX10_init_0 20 rfl rfl)
theorem dX10_init_21 : decode cX10_init 21 = .ok (.iconst (-1), 1) := dk_2 (dk_at dksX10_init_0 21 rfl rfl)
theorem dX10_init_22 : decode cX10_init 22 = .ok (.putfield 22, 3) := dk_181 0 22 (dk_at dksX10_init_1 0 rfl rfl)
theorem dX10_init_25 : decode cX10_init 25 = .ok (.aload_n 0, 1) := dk_42 (dk_at dksX10_init_1 3 rfl rfl)
theorem dX10_init_26 : decode cX10_init 26 = .ok (.iload_n 2, 1) := dk_28 (dk_at dksX10_init_1 4 rfl rfl)
theorem dX10_init_27 : decode cX10_init 27 = .ok (.putfield 26, 3) := dk_181 0 26 (dk_at dksX10_init_1 5 rfl rfl)
theorem dX10_init_30 : decode cX10_init 30 = .ok (.return_, 1) := dk_177 (dk_at dksX10_init_1 8 rfl rfl)
