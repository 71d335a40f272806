set_option maxRecDepth 100000
def dkwX9_readUnit_7 : List UInt8 := [182, 0, 164, 177]
abbrev dktX9_readUnit_7 : List UInt8 := dkwX9_readUnit_7 ++ []
def dkwX9_readUnit_6 : List UInt8 := [153, 0, 10, 42, 182, 0, 150, 167, 0, 8, 42, 5, 182, 0, 153, 42, 27, 182, 0, 173, 42, 28]
abbrev dktX9_readUnit_6 : List UInt8 := dkwX9_readUnit_6 ++ dktX9_readUnit_7
def dkwX9_readUnit_5 : List UInt8 := [16, 39, 182, 0, 147, 154, 0, 21, 42, 16, 40, 182, 0, 147, 154, 0, 12, 42, 16, 41, 182, 0, 147]
abbrev dktX9_readUnit_5 : List UInt8 := dkwX9_readUnit_5 ++ dktX9_readUnit_6
def dkwX9_readUnit_4 : List UInt8 := [167, 0, 21, 42, 16, 40, 182, 0, 147, 153, 0, 9, 17, 11, 188, 167, 0, 6, 17, 11, 189, 61, 42]
abbrev dktX9_readUnit_4 : List UInt8 := dkwX9_readUnit_4 ++ dktX9_readUnit_5
def dkwX9_readUnit_3 : List UInt8 := [5, 182, 0, 153, 177, 42, 27, 182, 0, 173, 42, 16, 39, 182, 0, 147, 153, 0, 9, 17, 11, 187]
abbrev dktX9_readUnit_3 : List UInt8 := dkwX9_readUnit_3 ++ dktX9_readUnit_4
def dkwX9_readUnit_2 : List UInt8 := [182, 0, 170, 154, 0, 4, 177, 42, 27, 4, 96, 182, 0, 188, 42, 16, 38, 182, 0, 176, 154, 0, 8, 42]
abbrev dktX9_readUnit_2 : List UInt8 := dkwX9_readUnit_2 ++ dktX9_readUnit_3
def dkwX9_readUnit_1 : List UInt8 := [182, 0, 185, 42, 17, 11, 190, 182, 0, 164, 177, 42, 16, 37, 182, 0, 147, 153, 0, 34, 42, 27]
abbrev dktX9_readUnit_1 : List UInt8 := dkwX9_readUnit_1 ++ dktX9_readUnit_2
def dkwX9_readUnit_0 : List UInt8 := [42, 16, 21, 182, 0, 147, 153, 0, 27, 42, 27, 182, 0, 170, 154, 0, 4, 177, 42, 27, 4, 96]
abbrev dktX9_readUnit_0 : List UInt8 := dkwX9_readUnit_0 ++ dktX9_readUnit_1
theorem dksX9_readUnit_0 : cX9_readUnit.data.toList.drop 0 = dktX9_readUnit_0 := by decide +kernel
theorem dksX9_readUnit_1 : cX9_readUnit.data.toList.drop 22 = dktX9_readUnit_1 := dk_seg dksX9_readUnit_0 22 rfl rfl
theorem dksX9_readUnit_2 : cX9_readUnit.data.toList.drop 44 = dktX9_readUnit_2 := dk_seg dksX9_readUnit_1 22 rfl rfl
theorem dksX9_readUnit_3 : cX9_readUnit.data.toList.drop 68 = dktX9_readUnit_3 := dk_seg dksX9_readUnit_2 24 rfl rfl
theorem dksX9_readUnit_4 : cX9_readUnit.data.toList.drop 90 = dktX9_readUnit_4 := dk_seg dksX9_readUnit_3 22 rfl rfl
theorem dksX9_readUnit_5 : cX9_readUnit.data.toList.drop 113 = dktX9_readUnit_5 := dk_seg dksX9_readUnit_4 23 rfl rfl
theorem dksX9_readUnit_6 : cX9_readUnit.data.toList.drop 136 = dktX9_readUnit_6 := dk_seg dksX9_readUnit_5 23 rfl rfl
theorem dksX9_readUnit_7 : cX9_readUnit.data.toList.drop 158 = dktX9_readUnit_7 := dk_seg dksX9_readUnit_6 22 rfl rfl
theorem dX9_readUnit_0 : decode cX9_readUnit 0 = .ok (.aload_n 0, 1) := dk_42 (dk_at dksX9_readUnit_0 0 rfl rfl)
theorem dX9_readUnit_1 : decode cX9_readUnit 1 = .ok (.bipush 21, 2) := dk_16 21 (dk_at dksX9_readUnit_0 1 rfl rfl)
theorem dX9_readUnit_3 : decode cX9_readUnit 3 = .ok (.invokevirtual 147, 3) := dk_182 0 147 (dk_at dksX9_readUnit_0 3 rfl rfl)
theorem dX9_readUnit_6 : decode cX9_readUnit 6 = .ok (.ifCond .eq 27, 3) := dk_153 0 27 (dk_at dksX9_readUnit_0 6 rfl rfl)
theorem dX9_readUnit_9 : decode cX9_readUnit 9 = .ok (.aload_n 0, 1) := dk_42 (dk_at dksX9_readUnit_0 9 rfl rfl)
theorem dX9_readUnit_10 : decode cX9_readUnit 10 = .ok (.iload_n 1, 1) := dk_27 (dk_at dksX9_readUnit_0 10 rfl rfl)
theorem dX9_readUnit_11 : decode cX9_readUnit 11 = .ok (.invokevirtual 170, 3) := dk_182 0 170 (dk_at dksX9_readUnit_0 11 rfl rfl)
theorem dX9_readUnit_14 : decode cX9_readUnit 14 = .ok (.ifCond .ne 4, 3) := dk_154 0 4 (dk_at dksX9_readUnit_0 14 rfl rfl)
theorem dX9_readUnit_17 : decode cX9_readUnit 17 = .ok (.return_, 1) := dk_177 (dk_at dksX9_readUnit_0 17 rfl rfl)
theorem dX9_readUnit_18 : decode cX9_readUnit 18 = .ok (.aload_n 0, 1) := dk_42 (dk_at dksX9_readUnit_0 18 rfl rfl)
theorem dX9_readUnit_19 : decode cX9_readUnit 19 = .ok (.iload_n 1, 1) := dk_27 (dk_at dksX9_readUnit_0 19 rfl rfl)
theorem dX9_readUnit_20 : decode cX9_readUnit 20 = .ok (.iconst 1, 1) := dk_4 (dk_at dksX9_readUnit_0 20 rfl rfl)
theorem dX9_readUnit_21 : decode cX9_readUnit 21 = .ok (.iadd, 1) := dk_96 (dk_at dksX9_readUnit_0 21 rfl rfl)
theorem dX9_readUnit_22 : decode cX9_readUnit 22 = .ok (.invokevirtual 185, 3) := dk_182 0 185 (dk_at dksX9_readUnit_1 0 rfl rfl)
theorem dX9_readUnit_25 : decode cX9_readUnit 25 = .ok (.aload_n 0, 1) := dk_42 (dk_at dksX9_readUnit_1 3 rfl rfl)
theorem dX9_readUnit_26 : decode cX9_readUnit 26 = .ok (.sipush 3006, 3) := dk_17 11 190 (dk_at dksX9_readUnit_1 4 rfl rfl)
theorem dX9_readUnit_29 : decode cX9_readUnit 29 = .ok (.invokevirtual 164, 3) := dk_182 0 164 (dk_at dksX9_readUnit_1 7 rfl rfl)
theorem dX9_readUnit_32 : decode cX9_readUnit 32 = .ok (.return_, 1) := dk_177 (dk_at dksX9_readUnit_1 10 rfl rfl)
theorem dX9_readUnit_33 : decode cX9_readUnit 33 = .ok (.aload_n 0, 1) := dk_42 (dk_at dksX9_readUnit_1 11 rfl rfl)
theorem dX9_readUnit_34 : decode cX9_readUnit 34 = .ok (.bipush 37, 2) := dk_16 37 (dk_at dksX9_readUnit_1 12 rfl rfl)
theorem dX9_readUnit_36 : decode cX9_readUnit 36 = .ok (.invokevirtual 147, 3) := dk_182 0 147 (dk_at dksX9_readUnit_1 14 rfl rfl)
theorem dX9_readUnit_39 : decode cX9_readUnit 39 = .ok (.ifCond .eq 34, 3) := dk_153 0 34 (dk_at dksX9_readUnit_1 17 rfl rfl)
theorem dX9_readUnit_42 : decode cX9_readUnit 42 = .ok (.aload_n 0, 1) := dk_42 (dk_at dksX9_readUnit_1 20 rfl rfl)
theorem dX9_readUnit_43 : decode cX9_readUnit 43 = .ok (.iload_n 1, 1) := dk_27 (dk_at dksX9_readUnit_1 21 rfl rfl)
theorem dX9_readUnit_44 : decode cX9_readUnit 44 = .ok (.invokevirtual 170, 3) := dk_182 0 170 (dk_at dksX9_readUnit_2 0 rfl rfl)
theorem dX9_readUnit_47 : decode cX9_readUnit 47 = .ok (.ifCond .ne 4, 3) := dk_154 0 4 (dk_at dksX9_readUnit_2 3 rfl rfl)
theorem dX9_readUnit_50 : decode cX9_readUnit 50 = .ok (.return_, 1) := dk_177 (dk_at dksX9_readUnit_2 6 rfl rfl)
theorem dX9_readUnit_51 : decode cX9_readUnit 51 = .ok (.aload_n 0, 1) := dk_42 (dk_at dksX9_readUnit_2 7 rfl rfl)
theorem dX9_readUnit_52 : decode cX9_readUnit 52 = .ok (.iload_n 1, 1) := dk_27 (dk_at dksX9_readUnit_2 8 rfl rfl)
theorem dX9_readUnit_53 : decode cX9_readUnit 53 = .ok (.iconst 1, 1) := dk_4 (dk_at dksX9_readUnit_2 9 rfl rfl)
theorem dX9_readUnit_54 : decode cX9_readUnit 54 = .ok (.iadd, 1) := dk_96 (dk_at dksX9_readUnit_2 10 rfl rfl)
theorem dX9_readUnit_55 : decode cX9_readUnit 55 = .ok (.invokevirtual 188, 3) := dk_182 0 188 (dk_at dksX9_readUnit_2 11 rfl rfl)
theorem dX9_readUnit_58 : decode cX9_readUnit 58 = .ok (.aload_n 0, 1) := dk_42 (dk_at dksX9_readUnit_2 14 rfl rfl)
theorem dX9_readUnit_59 : decode cX9_readUnit 59 = .ok (.bipush 38, 2) := dk_16 38 (dk_at dksX9_readUnit_2 15 rfl rfl)
theorem dX9_readUnit_61 : decode cX9_readUnit 61 = .ok (.invokevirtual 176, 3) := dk_182 0 176 (dk_at dksX9_readUnit_2 17 rfl rfl)
theorem dX9_readUnit_64 : decode cX9_readUnit 64 = .ok (.ifCond .ne 8, 3) := dk_154 0 8 (dk_at dksX9_readUnit_2 20 rfl rfl)
theorem dX9_readUnit_67 : decode cX9_readUnit 67 = .ok (.aload_n 0, 1) := dk_42 (dk_at dksX9_readUnit_2 23 rfl rfl)
theorem dX9_readUnit_68 : decode cX9_readUnit 68 = .ok (.iconst 2, 1) := dk_5 (dk_at dksX9_readUnit_3 0 rfl rfl)
theorem dX9_readUnit_69 : decode cX9_readUnit 69 = .ok (.invokevirtual 153, 3) := dk_182 0 153 (dk_at dksX9_readUnit_3 1 rfl rfl)
theorem dX9_readUnit_72 : decode cX9_readUnit 72 = .ok (.return_, 1) := dk_177 (dk_at dksX9_readUnit_3 4 rfl rfl)
theorem dX9_readUnit_73 : decode cX9_readUnit 73 = .ok (.aload_n 0, 1) := dk_42 (dk_at dksX9_readUnit_3 5 rfl rfl)
theorem dX9_readUnit_74 : decode cX9_readUnit 74 = .ok (.iload_n 1, 1) := dk_27 (dk_at dksX9_readUnit_3 6 rfl rfl)
theorem dX9_readUnit_75 : decode cX9_readUnit 75 = .ok (.invokevirtual 173, 3) := dk_182 0 173 (dk_at dksX9_readUnit_3 7 rfl rfl)
theorem dX9_readUnit_78 : decode cX9_readUnit 78 = .ok (.aload_n 0, 1) := dk_42 (dk_at dksX9_readUnit_3 10 rfl rfl)
theorem dX9_readUnit_79 : decode cX9_readUnit 79 = .ok (.bipush 39, 2) := dk_16 39 (dk_at dksX9_readUnit_3 11 rfl rfl)
theorem dX9_readUnit_81 : decode cX9_readUnit 81 = .ok (.invokevirtual 147, 3) := dk_182 0 147 (dk_at dksX9_readUnit_3 13 rfl rfl)
theorem dX9_readUnit_84 : decode cX9_readUnit 84 = .ok (.ifCond .eq 9, 3) := dk_153 0 9 (dk_at dksX9_readUnit_3 16 rfl rfl)
theorem dX9_readUnit_87 : decode cX9_readUnit 87 = .ok (.sipush 3003, 3) := dk_17 11 187 (dk_at dksX9_readUnit_3 19 rfl rfl)
theorem dX9_readUnit_90 : decode cX9_readUnit 90 = .ok (.goto 21, 3) := dk_167 0 21 (dk_at dksX9_readUnit_4 0 rfl rfl)
theorem dX9_readUnit_93 : decode cX9_readUnit 93 = .ok (.aload_n 0, 1) := dk_42 (dk_at dksX9_readUnit_4 3 rfl rfl)
theorem dX9_readUnit_94 : decode cX9_readUnit 94 = .ok (.bipush 40, 2) := dk_16 40 (dk_at dksX9_readUnit_4 4 rfl rfl)
theorem dX9_readUnit_96 : decode cX9_readUnit 96 = .ok (.invokevirtual 147, 3) := dk_182 0 147 (dk_at dksX9_readUnit_4 6 rfl rfl)
theorem dX9_readUnit_99 : decode cX9_readUnit 99 = .ok (.ifCond .eq 9, 3) := dk_153 0 9 (dk_at dksX9_readUnit_4 9 rfl rfl)
theorem dX9_readUnit_102 : decode cX9_readUnit 102 = .ok (.sipush 3004, 3) := dk_17 11 188 (dk_at dksX9_readUnit_4 12 rfl rfl)
theorem dX9_readUnit_105 : decode cX9_readUnit 105 = .ok (.goto 6, 3) := dk_167 0 6 (dk_at dksX9_readUnit_4 15 rfl rfl)
theorem dX9_readUnit_108 : decode cX9_readUnit 108 = .ok (.sipush 3005, 3) := dk_17 11 189 (dk_at dksX9_readUnit_4 18 rfl rfl)
theorem dX9_readUnit_111 : decode cX9_readUnit 111 = .ok (.istore_n 2, 1) := dk_61 (dk_at dksX9_readUnit_4 21 rfl rfl)
theorem dX9_readUnit_112 : decode cX9_readUnit 112 = .ok (.aload_n 0, 1) := dk_42 (dk_at dksX9_readUnit_4 22 rfl rfl)
theorem dX9_readUnit_113 : decode cX9_readUnit 113 = .ok (.bipush 39, 2) := dk_16 39 (dk_at dksX9_readUnit_5 0 rfl rfl)
theorem dX9_readUnit_115 : decode cX9_readUnit 115 = .ok (.invokevirtual 147, 3) := dk_182 0 147 (dk_at dksX9_readUnit_5 2 rfl rfl)
theorem dX9_readUnit_118 : decode cX9_readUnit 118 = .ok (.ifCond .ne 21, 3) := dk_154 0 21 (dk_at dksX9_readUnit_5 5 rfl rfl)
theorem dX9_readUnit_121 : decode cX9_readUnit 121 = .ok (.aload_n 0, 1) := dk_42 (dk_at dksX9_readUnit_5 8 rfl rfl)
theorem dX9_readUnit_122 : decode cX9_readUnit 122 = .ok (.bipush 40, 2) := dk_16 40 (dk_at dksX9_readUnit_5 9 rfl rfl)
theorem dX9_readUnit_124 : decode cX9_readUnit 124 = .ok (.invokevirtual 147, 3) := dk_182 0 147 (dk_at dksX9_readUnit_5 11 rfl rfl)
theorem dX9_readUnit_127 : decode cX9_readUnit 127 = .ok (.ifCond .ne 12, 3) := dk_154 0 12 (dk_at dksX9_readUnit_5 14 rfl rfl)
theorem dX9_readUnit_130 : decode cX9_readUnit 130 = .ok (.aload_n 0, 1) := dk_42 (dk_at dksX9_readUnit_5 17 rfl rfl)
theorem dX9_readUnit_131 : decode cX9_readUnit 131 = .ok (.bipush 41, 2) := dk_16 41 (dk_at dksX9_readUnit_5 18 rfl rfl)
theorem dX9_readUnit_133 : decode cX9_readUnit 133 = .ok (.invokevirtual 147, 3) := dk_182 0 147 (dk_at dksX9_readUnit_5 20 rfl rfl)
theorem dX9_readUnit_136 : decode cX9_readUnit 136 = .ok (.ifCond .eq 10, 3) := dk_153 0 10 (dk_at dksX9_readUnit_6 0 rfl rfl)
theorem dX9_readUnit_139 : decode cX9_readUnit 139 = .ok (.aload_n 0, 1) := dk_42 (dk_at dksX9_readUnit_6 3 rfl rfl)
theorem dX9_readUnit_140 : decode cX9_readUnit 140 = .ok (.invokevirtual 150, 3) := dk_182 0 150 (dk_at dksX9_readUnit_6 4 rfl rfl)
theorem dX9_readUnit_143 : decode cX9_readUnit 143 = .ok (.goto 8, 3) := dk_167 0 8 (dk_at dksX9_readUnit_6 7 rfl rfl)
theorem dX9_readUnit_146 : decode cX9_readUnit 146 = .ok (.aload_n 0, 1) := dk_42 (dk_at dksX9_readUnit_6 10 rfl rfl)
theorem dX9_readUnit_147 : decode cX9_readUnit 147 = .ok (.iconst 2, 1) := dk_5 (dk_at dksX9_readUnit_6 11 rfl rfl)
theorem dX9_readUnit_148 : decode cX9_readUnit 148 = .ok (.invokevirtual 153, 3) := dk_182 0 153 (dk_at dksX9_readUnit_6 12 rfl rfl)
theorem dX9_readUnit_151 : decode cX9_readUnit 151 = .ok (.aload_n 0, 1) := dk_42 (dk_at dksX9_readUnit_6 15 rfl rfl)
theorem dX9_readUnit_152 : decode cX9_readUnit 152 = .ok (.iload_n 1, 1) := dk_27 (dk_at dksX9_readUnit_6 16 rfl rfl)
theorem dX9_readUnit_153 : decode cX9_readUnit 153 = .ok (.invokevirtual 173, 3) := dk_182 0 173 (dk_at dksX9_readUnit_6 17 rfl rfl)
theorem dX9_readUnit_156 : decode cX9_readUnit 156 = .ok (.aload_n 0, 1) := dk_42 (dk_at dksX9_readUnit_6 20 rfl rfl)
theorem dX9_readUnit_157 : decode cX9_readUnit 157 = .ok (.iload_n 2, 1) := dk_28 (dk_at dksX9_readUnit_6 21 rfl rfl)
theorem dX9_readUnit_158 : decode cX9_readUnit 158 = .ok (.invokevirtual 164, 3) := dk_182 0 164 (dk_at dksX9_readUnit_7 0 rfl rfl)
theorem dX9_readUnit_161 : decode cX9_readUnit 161 = .ok (.return_, 1) := dk_177 (dk_at dksX9_readUnit_7 3 rfl rfl)
def dkwX9_goesIn_1 : List UInt8 := [180, 0, 141, 154, 0, 7, 4, 167, 0, 4, 3, 172]
abbrev dktX9_goesIn_1 : List UInt8 := dkwX9_goesIn_1 ++ []
def dkwX9_goesIn_0 : List UInt8 := [27, 16, 6, 160, 0, 8, 42, 7, 182, 0, 153, 42, 180, 0, 141, 154, 0, 7, 42, 182, 0, 150, 42]
abbrev dktX9_goesIn_0 : List UInt8 := dkwX9_goesIn_0 ++ dktX9_goesIn_1
theorem dksX9_goesIn_0 : cX9_goesIn.data.toList.drop 0 = dktX9_goesIn_0 := by decide +kernel
theorem dksX9_goesIn_1 : cX9_goesIn.data.toList.drop 23 = dktX9_goesIn_1 := dk_seg dksX9_goesIn_0 23 rfl rfl
theorem dX9_goesIn_0 : decode cX9_goesIn 0 = .ok (.iload_n 1, 1) := dk_27 (dk_at dksX9_goesIn_0 0 rfl rfl)
theorem dX9_goesIn_1 : decode cX9_goesIn 1 = .ok (.bipush 6, 2) := dk_16 6 (dk_at dksX9_goesIn_0 1 rfl rfl)
theorem dX9_goesIn_3 : decode cX9_goesIn 3 = .ok (.if_icmp .ne 8, 3) := dk_160 0 8 (dk_at dksX9_goesIn_0 3 rfl rfl)
theorem dX9_goesIn_6 : decode cX9_goesIn 6 = .ok (.aload_n 0, 1) := dk_42 (dk_at dksX9_goesIn_0 6 rfl rfl)
theorem dX9_goesIn_7 : decode cX9_goesIn 7 = .ok (.iconst 4, 1) := dk_7 (dk_at dksX9_goesIn_0 7 rfl rfl)
theorem dX9_goesIn_8 : decode cX9_goesIn 8 = .ok (.invokevirtual 153, 3) := dk_182 0 153 (dk_at dksX9_goesIn_0 8 rfl rfl)
theorem dX9_goesIn_11 : decode cX9_goesIn 11 = .ok (.aload_n 0, 1) := dk_42 (dk_at dksX9_goesIn_0 11 rfl rfl)
theorem dX9_goesIn_12 : decode cX9_goesIn 12 = .ok (.getfield 141, 3) := dk_180 0 141 (dk_at dksX9_goesIn_0 12 rfl rfl)
theorem dX9_goesIn_15 : decode cX9_goesIn 15 = .ok (.ifCond .ne 7, 3) := dk_154 0 7 (dk_at dksX9_goesIn_0 15 rfl rfl)
theorem dX9_goesIn_18 : decode cX9_goesIn 18 = .ok (.aload_n 0, 1) := dk_42 (dk_at dksX9_goesIn_0 18 rfl rfl)
theorem dX9_goesIn_19 : decode cX9_goesIn 19 = .ok (.invokevirtual 150, 3) := dk_182 0 150 (dk_at dksX9_goesIn_0 19 rfl rfl)
theorem dX9_goesIn_22 : decode cX9_goesIn 22 = .ok (.aload_n 0, 1) := dk_42 (dk_at dksX9_goesIn_0 22 rfl rfl)
theorem dX9_goesIn_23 : decode cX9_goesIn 23 = .ok (.getfield 141, 3) := dk_180 0 141 (dk_at dksX9_goesIn_1 0 rfl rfl)
theorem dX9_goesIn_26 : decode cX9_goesIn 26 = .ok (.ifCond .ne 7, 3) := dk_154 0 7 (dk_at dksX9_goesIn_1 3 rfl rfl)
theorem dX9_goesIn_29 : decode cX9_goesIn 29 = .ok (.iconst 1, 1) := dk_4 (dk_at dksX9_goesIn_1 6 rfl rfl)
theorem dX9_goesIn_30 : decode cX9_goesIn 30 = .ok (.goto 4, 3) := dk_167 0 4 (dk_at dksX9_goesIn_1 7 rfl rfl)
theorem dX9_goesIn_33 : decode cX9_goesIn 33 = .ok (.iconst 0, 1) := dk_3 (dk_at dksX9_goesIn_1 10 rfl rfl)
theorem dX9_goesIn_34 : decode cX9_goesIn 34 = .ok (.ireturn, 1) := dk_172 (dk_at dksX9_goesIn_1 11 rfl rfl)
def dkwX9_codes_1 : List UInt8 := [27, 79, 42, 180, 0, 24, 17, 0, 236, 92, 46, 4, 96, 79, 177]
abbrev dktX9_codes_1 : List UInt8 := dkwX9_codes_1 ++ []
def dkwX9_codes_0 : List UInt8 := [42, 180, 0, 141, 153, 0, 4, 177, 42, 180, 0, 24, 17, 0, 237, 42, 180, 0, 24, 17, 0, 236, 46, 96]
abbrev dktX9_codes_0 : List UInt8 := dkwX9_codes_0 ++ dktX9_codes_1
theorem dksX9_codes_0 : cX9_codes.data.toList.drop 0 = dktX9_codes_0 := by decide +kernel
theorem dksX9_codes_1 : cX9_codes.data.toList.drop 24 = dktX9_codes_1 := dk_seg dksX9_codes_0 24 rfl rfl
theorem dX9_codes_0 : decode cX9_codes 0 = .ok (.aload_n 0, 1) := dk_42 (dk_at dksX9_codes_0 0 rfl rfl)
theorem dX9_codes_1 : decode cX9_codes 1 = .ok (.getfield 141, 3) := dk_180 0 141 (dk_at dksX9_codes_0 1 rfl rfl)
theorem dX9_codes_4 : decode cX9_codes 4 = .ok (.ifCond .eq 4, 3) := dk_153 0 4 (dk_at dksX9_codes_0 4 rfl rfl)
theorem dX9_codes_7 : decode cX9_codes 7 = .ok (.return_, 1) := dk_177 (dk_at dksX9_codes_0 7 rfl rfl)
theorem dX9_codes_8 : decode cX9_codes 8 = .ok (.aload_n 0, 1) := dk_42 (dk_at dksX9_codes_0 8 rfl rfl)
theorem dX9_codes_9 : decode cX9_codes 9 = .ok (.getfield 24, 3) := dk_180 0 24 (dk_at dksX9_codes_0 9 rfl rfl)
theorem dX9_codes_12 : decode cX9_codes 12 = .ok (.sipush 237, 3) := dk_17 0 237 (dk_at dksX9_codes_0 12 rfl rfl)
theorem dX9_codes_15 : decode cX9_codes 15 = .ok (.aload_n 0, 1) := dk_42 (dk_at dksX9_codes_0 15 rfl rfl)
theorem dX9_codes_16 : decode cX9_codes 16 = .ok (.getfield 24, 3) := dk_180 0 24 (dk_at dksX9_codes_0 16 rfl rfl)
theorem dX9_codes_19 : decode cX9_codes 19 = .ok (.sipush 236, 3) := dk_17 0 236 (dk_at dksX9_codes_0 19 rfl rfl)
theorem dX9_codes_22 : decode cX9_codes 22 = .ok (.iaload, 1) := dk_46 (dk_at dksX9_codes_0 22 rfl rfl)
theorem dX9_codes_23 : decode cX9_codes 23 = .ok (.iadd, 1) := dk_96 (dk_at dksX9_codes_0 23 rfl rfl)
theorem dX9_codes_24 : decode cX9_codes 24 = .ok (.iload_n 1, 1) := dk_27 (dk_at dksX9_codes_1 0 rfl rfl)
theorem dX9_codes_25 : decode cX9_codes 25 = .ok (.iastore, 1) := dk_79 (dk_at dksX9_codes_1 1 rfl rfl)
theorem dX9_codes_26 : decode cX9_codes 26 = .ok (.aload_n 0, 1) := dk_42 (dk_at dksX9_codes_1 2 rfl rfl)
theorem dX9_codes_27 : decode cX9_codes 27 = .ok (.getfield 24, 3) := dk_180 0 24 (dk_at dksX9_codes_1 3 rfl rfl)
theorem dX9_codes_30 : decode cX9_codes 30 = .ok (.sipush 236, 3) := dk_17 0 236 (dk_at dksX9_codes_1 6 rfl rfl)
theorem dX9_codes_33 : decode cX9_codes 33 = .ok (.dup2, 1) := dk_92 (dk_at dksX9_codes_1 9 rfl rfl)
theorem dX9_codes_34 : decode cX9_codes 34 = .ok (.iaload, 1) := dk_46 (dk_at dksX9_codes_1 10 rfl rfl)
theorem dX9_codes_35 : decode cX9_codes 35 = .ok (.iconst 1, 1) := dk_4 (dk_at dksX9_codes_1 11 rfl rfl)
theorem dX9_codes_36 : decode cX9_codes 36 = .ok (.iadd, 1) := dk_96 (dk_at dksX9_codes_1 12 rfl rfl)
theorem dX9_codes_37 : decode cX9_codes 37 = .ok (.iastore, 1) := dk_79 (dk_at dksX9_codes_1 13 rfl rfl)
theorem dX9_codes_38 : decode cX9_codes 38 = .ok (.return_, 1) := dk_177 (dk_at dksX9_codes_1 14 rfl rfl)
def dkwX9_readSum_2 : List UInt8 := [182, 0, 182, 42, 28, 182, 0, 164, 167, 255, 205, 177]
abbrev dktX9_readSum_2 : List UInt8 := dkwX9_readSum_2 ++ []
def dkwX9_readSum_1 : List UInt8 := [180, 0, 123, 16, 32, 160, 0, 9, 17, 11, 184, 167, 0, 6, 17, 11, 185, 61, 42, 182, 0, 150, 42, 27]
abbrev dktX9_readSum_1 : List UInt8 := dkwX9_readSum_1 ++ dktX9_readSum_2
def dkwX9_readSum_0 : List UInt8 := [42, 27, 182, 0, 182, 42, 16, 32, 182, 0, 147, 154, 0, 12, 42, 16, 33, 182, 0, 147, 153, 0, 39, 42]
abbrev dktX9_readSum_0 : List UInt8 := dkwX9_readSum_0 ++ dktX9_readSum_1
theorem dksX9_readSum_0 : cX9_readSum.data.toList.drop 0 = dktX9_readSum_0 := by decide +kernel
theorem dksX9_readSum_1 : cX9_readSum.data.toList.drop 24 = dktX9_readSum_1 := dk_seg dksX9_readSum_0 24 rfl rfl
theorem dksX9_readSum_2 : cX9_readSum.data.toList.drop 48 = dktX9_readSum_2 := dk_seg dksX9_readSum_1 24 rfl rfl
theorem dX9_readSum_0 : decode cX9_readSum 0 = .ok (.aload_n 0, 1) := dk_42 (dk_at dksX9_readSum_0 0 rfl rfl)
theorem dX9_readSum_1 : decode cX9_readSum 1 = .ok (.iload_n 1, 1) := dk_27 (dk_at dksX9_readSum_0 1 rfl rfl)
theorem dX9_readSum_2 : decode cX9_readSum 2 = .ok (.invokevirtual 182, 3) := dk_182 0 182 (dk_at dksX9_readSum_0 2 rfl rfl)
theorem dX9_readSum_5 : decode cX9_readSum 5 = .ok (.aload_n 0, 1) := dk_42 (dk_at dksX9_readSum_0 5 rfl rfl)
theorem dX9_readSum_6 : decode cX9_readSum 6 = .ok (.bipush 32, 2) := dk_16 32 (dk_at dksX9_readSum_0 6 rfl rfl)
theorem dX9_readSum_8 : decode cX9_readSum 8 = .ok (.invokevirtual 147, 3) := dk_182 0 147 (dk_at dksX9_readSum_0 8 rfl rfl)
theorem dX9_readSum_11 : decode cX9_readSum 11 = .ok (.ifCond .ne 12, 3) := dk_154 0 12 (dk_at dksX9_readSum_0 11 rfl rfl)
theorem dX9_readSum_14 : decode cX9_readSum 14 = .ok (.aload_n 0, 1) := dk_42 (dk_at dksX9_readSum_0 14 rfl rfl)
theorem dX9_readSum_15 : decode cX9_readSum 15 = .ok (.bipush 33, 2) := dk_16 33 (dk_at dksX9_readSum_0 15 rfl rfl)
theorem dX9_readSum_17 : decode cX9_readSum 17 = .ok (.invokevirtual 147, 3) := dk_182 0 147 (dk_at dksX9_readSum_0 17 rfl rfl)
theorem dX9_readSum_20 : decode cX9_readSum 20 = .ok (.ifCond .eq 39, 3) := dk_153 0 39 (dk_at dksX9_readSum_0 20 rfl rfl)
theorem dX9_readSum_23 : decode cX9_readSum 23 = .ok (.aload_n 0, 1) := dk_42 (dk_at dksX9_readSum_0 23 rfl rfl)
theorem dX9_readSum_24 : decode cX9_readSum 24 = .ok (.getfield 123, 3) := dk_180 0 123 (dk_at dksX9_readSum_1 0 rfl rfl)
theorem dX9_readSum_27 : decode cX9_readSum 27 = .ok (.bipush 32, 2) := dk_16 32 (dk_at dksX9_readSum_1 3 rfl rfl)
theorem dX9_readSum_29 : decode cX9_readSum 29 = .ok (.if_icmp .ne 9, 3) := dk_160 0 9 (dk_at dksX9_readSum_1 5 rfl rfl)
theorem dX9_readSum_32 : decode cX9_readSum 32 = .ok (.sipush 3000, 3) := dk_17 11 184 (dk_at dksX9_readSum_1 8 rfl rfl)
theorem dX9_readSum_35 : decode cX9_readSum 35 = .ok (.goto 6, 3) := dk_167 0 6 (dk_at dksX9_readSum_1 11 rfl rfl)
theorem dX9_readSum_38 : decode cX9_readSum 38 = .ok (.sipush 3001, 3) := dk_17 11 185 (dk_at dksX9_readSum_1 14 rfl rfl)
theorem dX9_readSum_41 : decode cX9_readSum 41 = .ok (.istore_n 2, 1) := dk_61 (dk_at dksX9_readSum_1 17 rfl rfl)
theorem dX9_readSum_42 : decode cX9_readSum 42 = .ok (.aload_n 0, 1) := dk_42 (dk_at dksX9_readSum_1 18 rfl rfl)
theorem dX9_readSum_43 : decode cX9_readSum 43 = .ok (.invokevirtual 150, 3) := dk_182 0 150 (dk_at dksX9_readSum_1 19 rfl rfl)
theorem dX9_readSum_46 : decode cX9_readSum 46 = .ok (.aload_n 0, 1) := dk_42 (dk_at dksX9_readSum_1 22 rfl rfl)
theorem dX9_readSum_47 : decode cX9_readSum 47 = .ok (.iload_n 1, 1) := dk_27 (dk_at dksX9_readSum_1 23 rfl rfl)
theorem dX9_readSum_48 : decode cX9_readSum 48 = .ok (.invokevirtual 182, 3) := dk_182 0 182 (dk_at dksX9_readSum_2 0 rfl rfl)
theorem dX9_readSum_51 : decode cX9_readSum 51 = .ok (.aload_n 0, 1) := dk_42 (dk_at dksX9_readSum_2 3 rfl rfl)
theorem dX9_readSum_52 : decode cX9_readSum 52 = .ok (.iload_n 2, 1) := dk_28 (dk_at dksX9_readSum_2 4 rfl rfl)
theorem dX9_readSum_53 : decode cX9_readSum 53 = .ok (.invokevirtual 164, 3) := dk_182 0 164 (dk_at dksX9_readSum_2 5 rfl rfl)
theorem dX9_readSum_56 : decode cX9_readSum 56 = .ok (.goto (-51), 3) := dk_167 255 205 (dk_at dksX9_readSum_2 8 rfl rfl)
theorem dX9_readSum_59 : decode cX9_readSum 59 = .ok (.return_, 1) := dk_177 (dk_at dksX9_readSum_2 11 rfl rfl)
def dkwX9_readTerm_1 : List UInt8 := [182, 0, 164, 167, 255, 235, 177]
abbrev dktX9_readTerm_1 : List UInt8 := dkwX9_readTerm_1 ++ []
def dkwX9_readTerm_0 : List UInt8 := [42, 27, 182, 0, 179, 42, 16, 34, 182, 0, 176, 153, 0, 18, 42, 27, 182, 0, 179, 42, 17, 11, 186]
abbrev dktX9_readTerm_0 : List UInt8 := dkwX9_readTerm_0 ++ dktX9_readTerm_1
theorem dksX9_readTerm_0 : cX9_readTerm.data.toList.drop 0 = dktX9_readTerm_0 := by decide +kernel
theorem dksX9_readTerm_1 : cX9_readTerm.data.toList.drop 23 = dktX9_readTerm_1 := dk_seg dksX9_readTerm_0 23 rfl rfl
theorem dX9_readTerm_0 : decode cX9_readTerm 0 = .ok (.aload_n 0, 1) := dk_42 (dk_at dksX9_readTerm_0 0 rfl rfl)
theorem dX9_readTerm_1 : decode cX9_readTerm 1 = .ok (.iload_n 1, 1) := dk_27 (dk_at dksX9_readTerm_0 1 rfl rfl)
theorem dX9_readTerm_2 : decode cX9_readTerm 2 = .ok (.invokevirtual 179, 3) := dk_182 0 179 (dk_at dksX9_readTerm_0 2 rfl rfl)
theorem dX9_readTerm_5 : decode cX9_readTerm 5 = .ok (.aload_n 0, 1) := dk_42 (dk_at dksX9_readTerm_0 5 rfl rfl)
theorem dX9_readTerm_6 : decode cX9_readTerm 6 = .ok (.bipush 34, 2) := dk_16 34 (dk_at dksX9_readTerm_0 6 rfl rfl)
theorem dX9_readTerm_8 : decode cX9_readTerm 8 = .ok (.invokevirtual 176, 3) := dk_182 0 176 (dk_at dksX9_readTerm_0 8 rfl rfl)
theorem dX9_readTerm_11 : decode cX9_readTerm 11 = .ok (.ifCond .eq 18, 3) := dk_153 0 18 (dk_at dksX9_readTerm_0 11 rfl rfl)
theorem dX9_readTerm_14 : decode cX9_readTerm 14 = .ok (.aload_n 0, 1) := dk_42 (dk_at dksX9_readTerm_0 14 rfl rfl)
theorem dX9_readTerm_15 : decode cX9_readTerm 15 = .ok (.iload_n 1, 1) := dk_27 (dk_at dksX9_readTerm_0 15 rfl rfl)
theorem dX9_readTerm_16 : decode cX9_readTerm 16 = .ok (.invokevirtual 179, 3) := dk_182 0 179 (dk_at dksX9_readTerm_0 16 rfl rfl)
theorem dX9_readTerm_19 : decode cX9_readTerm 19 = .ok (.aload_n 0, 1) := dk_42 (dk_at dksX9_readTerm_0 19 rfl rfl)
theorem dX9_readTerm_20 : decode cX9_readTerm 20 = .ok (.sipush 3002, 3) := dk_17 11 186 (dk_at dksX9_readTerm_0 20 rfl rfl)
theorem dX9_readTerm_23 : decode cX9_readTerm 23 = .ok (.invokevirtual 164, 3) := dk_182 0 164 (dk_at dksX9_readTerm_1 0 rfl rfl)
theorem dX9_readTerm_26 : decode cX9_readTerm 26 = .ok (.goto (-21), 3) := dk_167 255 235 (dk_at dksX9_readTerm_1 3 rfl rfl)
theorem dX9_readTerm_29 : decode cX9_readTerm 29 = .ok (.return_, 1) := dk_177 (dk_at dksX9_readTerm_1 6 rfl rfl)
def dkwX9_readAtom_4 : List UInt8 := [182, 0, 176, 154, 0, 16, 42, 5, 182, 0, 153, 167, 0, 8, 42, 5, 182, 0, 153, 177]
abbrev dktX9_readAtom_4 : List UInt8 := dkwX9_readAtom_4 ++ []
def dkwX9_readAtom_3 : List UInt8 := [153, 0, 36, 42, 27, 182, 0, 170, 154, 0, 4, 177, 42, 27, 4, 96, 182, 0, 173, 42, 16, 36]
abbrev dktX9_readAtom_3 : List UInt8 := dkwX9_readAtom_3 ++ dktX9_readAtom_4
def dkwX9_readAtom_2 : List UInt8 := [42, 180, 0, 123, 182, 0, 167, 96, 182, 0, 164, 42, 182, 0, 150, 167, 0, 50, 42, 16, 35, 182, 0, 147]
abbrev dktX9_readAtom_2 : List UInt8 := dkwX9_readAtom_2 ++ dktX9_readAtom_3
def dkwX9_readAtom_1 : List UInt8 := [42, 180, 0, 141, 154, 0, 38, 42, 42, 180, 0, 123, 182, 0, 167, 2, 159, 0, 26, 42, 17, 3, 232, 42]
abbrev dktX9_readAtom_1 : List UInt8 := dkwX9_readAtom_1 ++ dktX9_readAtom_2
def dkwX9_readAtom_0 : List UInt8 := [42, 16, 23, 182, 0, 147, 153, 0, 18, 42, 42, 180, 0, 136, 182, 0, 164, 42, 182, 0, 150, 167, 0, 92]
abbrev dktX9_readAtom_0 : List UInt8 := dkwX9_readAtom_0 ++ dktX9_readAtom_1
theorem dksX9_readAtom_0 : cX9_readAtom.data.toList.drop 0 = dktX9_readAtom_0 := by decide +kernel
theorem dksX9_readAtom_1 : cX9_readAtom.data.toList.drop 24 = dktX9_readAtom_1 := dk_seg dksX9_readAtom_0 24 rfl rfl
theorem dksX9_readAtom_2 : cX9_readAtom.data.toList.drop 48 = dktX9_readAtom_2 := dk_seg dksX9_readAtom_1 24 rfl rfl
theorem dksX9_readAtom_3 : cX9_readAtom.data.toList.drop 72 = dktX9_readAtom_3 := dk_seg dksX9_readAtom_2 24 rfl rfl
theorem dksX9_readAtom_4 : cX9_readAtom.data.toList.drop 94 = dktX9_readAtom_4 := dk_seg dksX9_readAtom_3 22 rfl rfl
theorem dX9_readAtom_0 : decode cX9_readAtom 0 = .ok (.aload_n 0, 1) := dk_42 (dk_at dksX9_readAtom_0 0 rfl rfl)
theorem dX9_readAtom_1 : decode cX9_readAtom 1 = .ok (.bipush 23, 2) := dk_16 23 (dk_at dksX9_readAtom_0 1 rfl rfl)
theorem dX9_readAtom_3 : decode cX9_readAtom 3 = .ok (.invokevirtual 147, 3) := dk_182 0 147 (dk_at dksX9_readAtom_0 3 rfl rfl)
theorem dX9_readAtom_6 : decode cX9_readAtom 6 = .ok (.ifCond .eq 18, 3) := dk_153 0 18 (dk_at dksX9_readAtom_0 6 rfl rfl)
theorem dX9_readAtom_9 : decode cX9_readAtom 9 = .ok (.aload_n 0, 1) := dk_42 (dk_at dksX9_readAtom_0 9 rfl rfl)
theorem dX9_readAtom_10 : decode cX9_readAtom 10 = .ok (.aload_n 0, 1) := dk_42 (dk_at dksX9_readAtom_0 10 rfl rfl)
theorem dX9_readAtom_11 : decode cX9_readAtom 11 = .ok (.getfield 136, 3) := dk_180 0 136 (dk_at dksX9_readAtom_0 11 rfl rfl)
theorem dX9_readAtom_14 : decode cX9_readAtom 14 = .ok (.invokevirtual 164, 3) := dk_182 0 164 (dk_at dksX9_readAtom_0 14 rfl rfl)
theorem dX9_readAtom_17 : decode cX9_readAtom 17 = .ok (.aload_n 0, 1) := dk_42 (dk_at dksX9_readAtom_0 17 rfl rfl)
theorem dX9_readAtom_18 : decode cX9_readAtom 18 = .ok (.invokevirtual 150, 3) := dk_182 0 150 (dk_at dksX9_readAtom_0 18 rfl rfl)
theorem dX9_readAtom_21 : decode cX9_readAtom 21 = .ok (.goto 92, 3) := dk_167 0 92 (dk_at dksX9_readAtom_0 21 rfl rfl)
theorem dX9_readAtom_24 : decode cX9_readAtom 24 = .ok (.aload_n 0, 1) := dk_42 (dk_at dksX9_readAtom_1 0 rfl rfl)
theorem dX9_readAtom_25 : decode cX9_readAtom 25 = .ok (.getfield 141, 3) := dk_180 0 141 (dk_at dksX9_readAtom_1 1 rfl rfl)
theorem dX9_readAtom_28 : decode cX9_readAtom 28 = .ok (.ifCond .ne 38, 3) := dk_154 0 38 (dk_at dksX9_readAtom_1 4 rfl rfl)
theorem dX9_readAtom_31 : decode cX9_readAtom 31 = .ok (.aload_n 0, 1) := dk_42 (dk_at dksX9_readAtom_1 7 rfl rfl)
theorem dX9_readAtom_32 : decode cX9_readAtom 32 = .ok (.aload_n 0, 1) := dk_42 (dk_at dksX9_readAtom_1 8 rfl rfl)
theorem dX9_readAtom_33 : decode cX9_readAtom 33 = .ok (.getfield 123, 3) := dk_180 0 123 (dk_at dksX9_readAtom_1 9 rfl rfl)
theorem dX9_readAtom_36 : decode cX9_readAtom 36 = .ok (.invokevirtual 167, 3) := dk_182 0 167 (dk_at dksX9_readAtom_1 12 rfl rfl)
theorem dX9_readAtom_39 : decode cX9_readAtom 39 = .ok (.iconst (-1), 1) := dk_2 (dk_at dksX9_readAtom_1 15 rfl rfl)
theorem dX9_readAtom_40 : decode cX9_readAtom 40 = .ok (.if_icmp .eq 26, 3) := dk_159 0 26 (dk_at dksX9_readAtom_1 16 rfl rfl)
theorem dX9_readAtom_43 : decode cX9_readAtom 43 = .ok (.aload_n 0, 1) := dk_42 (dk_at dksX9_readAtom_1 19 rfl rfl)
theorem dX9_readAtom_44 : decode cX9_readAtom 44 = .ok (.sipush 1000, 3) := dk_17 3 232 (dk_at dksX9_readAtom_1 20 rfl rfl)
theorem dX9_readAtom_47 : decode cX9_readAtom 47 = .ok (.aload_n 0, 1) := dk_42 (dk_at dksX9_readAtom_1 23 rfl rfl)
theorem dX9_readAtom_48 : decode cX9_readAtom 48 = .ok (.aload_n 0, 1) := dk_42 (dk_at dksX9_readAtom_2 0 rfl rfl)
theorem dX9_readAtom_49 : decode cX9_readAtom 49 = .ok (.getfield 123, 3) := dk_180 0 123 (dk_at dksX9_readAtom_2 1 rfl rfl)
theorem dX9_readAtom_52 : decode cX9_readAtom 52 = .ok (.invokevirtual 167, 3) := dk_182 0 167 (dk_at dksX9_readAtom_2 4 rfl rfl)
theorem dX9_readAtom_55 : decode cX9_readAtom 55 = .ok (.iadd, 1) := dk_96 (dk_at dksX9_readAtom_2 7 rfl rfl)
theorem dX9_readAtom_56 : decode cX9_readAtom 56 = .ok (.invokevirtual 164, 3) := dk_182 0 164 (dk_at dksX9_readAtom_2 8 rfl rfl)
theorem dX9_readAtom_59 : decode cX9_readAtom 59 = .ok (.aload_n 0, 1) := dk_42 (dk_at dksX9_readAtom_2 11 rfl rfl)
theorem dX9_readAtom_60 : decode cX9_readAtom 60 = .ok (.invokevirtual 150, 3) := dk_182 0 150 (dk_at dksX9_readAtom_2 12 rfl rfl)
theorem dX9_readAtom_63 : decode cX9_readAtom 63 = .ok (.goto 50, 3) := dk_167 0 50 (dk_at dksX9_readAtom_2 15 rfl rfl)
theorem dX9_readAtom_66 : decode cX9_readAtom 66 = .ok (.aload_n 0, 1) := dk_42 (dk_at dksX9_readAtom_2 18 rfl rfl)
theorem dX9_readAtom_67 : decode cX9_readAtom 67 = .ok (.bipush 35, 2) := dk_16 35 (dk_at dksX9_readAtom_2 19 rfl rfl)
theorem dX9_readAtom_69 : decode cX9_readAtom 69 = .ok (.invokevirtual 147, 3) := dk_182 0 147 (dk_at dksX9_readAtom_2 21 rfl rfl)
theorem dX9_readAtom_72 : decode cX9_readAtom 72 = .ok (.ifCond .eq 36, 3) := dk_153 0 36 (dk_at dksX9_readAtom_3 0 rfl rfl)
theorem dX9_readAtom_75 : decode cX9_readAtom 75 = .ok (.aload_n 0, 1) := dk_42 (dk_at dksX9_readAtom_3 3 rfl rfl)
theorem dX9_readAtom_76 : decode cX9_readAtom 76 = .ok (.iload_n 1, 1) := dk_27 (dk_at dksX9_readAtom_3 4 rfl rfl)
theorem dX9_readAtom_77 : decode cX9_readAtom 77 = .ok (.invokevirtual 170, 3) := dk_182 0 170 (dk_at dksX9_readAtom_3 5 rfl rfl)
theorem dX9_readAtom_80 : decode cX9_readAtom 80 = .ok (.ifCond .ne 4, 3) := dk_154 0 4 (dk_at dksX9_readAtom_3 8 rfl rfl)
theorem dX9_readAtom_83 : decode cX9_readAtom 83 = .ok (.return_, 1) := dk_177 (dk_at dksX9_readAtom_3 11 rfl rfl)
theorem dX9_readAtom_84 : decode cX9_readAtom 84 = .ok (.aload_n 0, 1) := dk_42 (dk_at dksX9_readAtom_3 12 rfl rfl)
theorem dX9_readAtom_85 : decode cX9_readAtom 85 = .ok (.iload_n 1, 1) := dk_27 (dk_at dksX9_readAtom_3 13 rfl rfl)
theorem dX9_readAtom_86 : decode cX9_readAtom 86 = .ok (.iconst 1, 1) := dk_4 (dk_at dksX9_readAtom_3 14 rfl rfl)
theorem dX9_readAtom_87 : decode cX9_readAtom 87 = .ok (.iadd, 1) := dk_96 (dk_at dksX9_readAtom_3 15 rfl rfl)
theorem dX9_readAtom_88 : decode cX9_readAtom 88 = .ok (.invokevirtual 173, 3) := dk_182 0 173 (dk_at dksX9_readAtom_3 16 rfl rfl)
theorem dX9_readAtom_91 : decode cX9_readAtom 91 = .ok (.aload_n 0, 1) := dk_42 (dk_at dksX9_readAtom_3 19 rfl rfl)
theorem dX9_readAtom_92 : decode cX9_readAtom 92 = .ok (.bipush 36, 2) := dk_16 36 (dk_at dksX9_readAtom_3 20 rfl rfl)
theorem dX9_readAtom_94 : decode cX9_readAtom 94 = .ok (.invokevirtual 176, 3) := dk_182 0 176 (dk_at dksX9_readAtom_4 0 rfl rfl)
theorem dX9_readAtom_97 : decode cX9_readAtom 97 = .ok (.ifCond .ne 16, 3) := dk_154 0 16 (dk_at dksX9_readAtom_4 3 rfl rfl)
theorem dX9_readAtom_100 : decode cX9_readAtom 100 = .ok (.aload_n 0, 1) := dk_42 (dk_at dksX9_readAtom_4 6 rfl rfl)
theorem dX9_readAtom_101 : decode cX9_readAtom 101 = .ok (.iconst 2, 1) := dk_5 (dk_at dksX9_readAtom_4 7 rfl rfl)
theorem dX9_readAtom_102 : decode cX9_readAtom 102 = .ok (.invokevirtual 153, 3) := dk_182 0 153 (dk_at dksX9_readAtom_4 8 rfl rfl)
theorem dX9_readAtom_105 : decode cX9_readAtom 105 = .ok (.goto 8, 3) := dk_167 0 8 (dk_at dksX9_readAtom_4 11 rfl rfl)
theorem dX9_readAtom_108 : decode cX9_readAtom 108 = .ok (.aload_n 0, 1) := dk_42 (dk_at dksX9_readAtom_4 14 rfl rfl)
theorem dX9_readAtom_109 : decode cX9_readAtom 109 = .ok (.iconst 2, 1) := dk_5 (dk_at dksX9_readAtom_4 15 rfl rfl)
theorem dX9_readAtom_110 : decode cX9_readAtom 110 = .ok (.invokevirtual 153, 3) := dk_182 0 153 (dk_at dksX9_readAtom_4 16 rfl rfl)
theorem dX9_readAtom_113 : decode cX9_readAtom 113 = .ok (.return_, 1) := dk_177 (dk_at dksX9_readAtom_4 19 rfl rfl)
def dkwX9_wordOf_3 : List UInt8 := [172]
abbrev dktX9_wordOf_3 : List UInt8 := dkwX9_wordOf_3 ++ []
def dkwX9_wordOf_2 : List UInt8 := [3, 172, 4, 172, 5, 172, 6, 172, 7, 172, 42, 180, 0, 161, 154, 0, 7, 8, 167, 0, 4, 2, 172, 2]
abbrev dktX9_wordOf_2 : List UInt8 := dkwX9_wordOf_2 ++ dktX9_wordOf_3
def dkwX9_wordOf_1 : List UInt8 := [170, 0, 0, 0, 0, 0, 82, 0, 0, 0, 8, 0, 0, 0, 18, 0, 0, 0, 65, 0, 0, 0, 82, 0, 0, 0, 82, 0, 0, 0, 82, 0, 0, 0, 82, 0, 0, 0, 82, 0, 0, 0, 61, 0, 0, 0, 59, 0, 0, 0, 63, 0, 0, 0, 67, 0, 0, 0, 69]
abbrev dktX9_wordOf_1 : List UInt8 := dkwX9_wordOf_1 ++ dktX9_wordOf_2
def dkwX9_wordOf_0 : List UInt8 := [27]
abbrev dktX9_wordOf_0 : List UInt8 := dkwX9_wordOf_0 ++ dktX9_wordOf_1
theorem dksX9_wordOf_0 : cX9_wordOf.data.toList.drop 0 = dktX9_wordOf_0 := by decide +kernel
theorem dksX9_wordOf_1 : cX9_wordOf.data.toList.drop 1 = dktX9_wordOf_1 := dk_seg dksX9_wordOf_0 1 rfl rfl
theorem dksX9_wordOf_2 : cX9_wordOf.data.toList.drop 60 = dktX9_wordOf_2 := dk_seg dksX9_wordOf_1 59 rfl rfl
theorem dksX9_wordOf_3 : cX9_wordOf.data.toList.drop 84 = dktX9_wordOf_3 := dk_seg dksX9_wordOf_2 24 rfl rfl
theorem dX9_wordOf_0 : decode cX9_wordOf 0 = .ok (.iload_n 1, 1) := dk_27 (dk_at dksX9_wordOf_0 0 rfl rfl)
theorem dX9_wordOf_1 : decode cX9_wordOf 1 = .ok (.tableswitch 82 8 18 #[65, 82, 82, 82, 82, 82, 61, 59, 63, 67, 69], 59) := by decide +kernel
theorem dX9_wordOf_60 : decode cX9_wordOf 60 = .ok (.iconst 0, 1) := dk_3 (dk_at dksX9_wordOf_2 0 rfl rfl)
theorem dX9_wordOf_61 : decode cX9_wordOf 61 = .ok (.ireturn, 1) := dk_172 (dk_at dksX9_wordOf_2 1 rfl rfl)
theorem dX9_wordOf_62 : decode cX9_wordOf 62 = .ok (.iconst 1, 1) := dk_4 (dk_at dksX9_wordOf_2 2 rfl rfl)
theorem dX9_wordOf_63 : decode cX9_wordOf 63 = .ok (.ireturn, 1) := dk_172 (dk_at dksX9_wordOf_2 3 rfl rfl)
theorem dX9_wordOf_64 : decode cX9_wordOf 64 = .ok (.iconst 2, 1) := dk_5 (dk_at dksX9_wordOf_2 4 rfl rfl)
theorem dX9_wordOf_65 : decode cX9_wordOf 65 = .ok (.ireturn, 1) := dk_172 (dk_at dksX9_wordOf_2 5 rfl rfl)
theorem dX9_wordOf_66 : decode cX9_wordOf 66 = .ok (.iconst 3, 1) := dk_6 (dk_at dksX9_wordOf_2 6 rfl rfl)
theorem dX9_wordOf_67 : decode cX9_wordOf 67 = .ok (.ireturn, 1) := dk_172 (dk_at dksX9_wordOf_2 7 rfl rfl)
theorem dX9_wordOf_68 : decode cX9_wordOf 68 = .ok (.iconst 4, 1) := dk_7 (dk_at dksX9_wordOf_2 8 rfl rfl)
theorem dX9_wordOf_69 : decode cX9_wordOf 69 = .ok (.ireturn, 1) := dk_172 (dk_at dksX9_wordOf_2 9 rfl rfl)
theorem dX9_wordOf_70 : decode cX9_wordOf 70 = .ok (.aload_n 0, 1) := dk_42 (dk_at dksX9_wordOf_2 10 rfl rfl)
theorem dX9_wordOf_71 : decode cX9_wordOf 71 = .ok (.getfield 161, 3) := dk_180 0 161 (dk_at dksX9_wordOf_2 11 rfl rfl)
theorem dX9_wordOf_74 : decode cX9_wordOf 74 = .ok (.ifCond .ne 7, 3) := dk_154 0 7 (dk_at dksX9_wordOf_2 14 rfl rfl)
theorem dX9_wordOf_77 : decode cX9_wordOf 77 = .ok (.iconst 5, 1) := dk_8 (dk_at dksX9_wordOf_2 17 rfl rfl)
theorem dX9_wordOf_78 : decode cX9_wordOf 78 = .ok (.goto 4, 3) := dk_167 0 4 (dk_at dksX9_wordOf_2 18 rfl rfl)
theorem dX9_wordOf_81 : decode cX9_wordOf 81 = .ok (.iconst (-1), 1) := dk_2 (dk_at dksX9_wordOf_2 21 rfl rfl)
theorem dX9_wordOf_82 : decode cX9_wordOf 82 = .ok (.ireturn, 1) := dk_172 (dk_at dksX9_wordOf_2 22 rfl rfl)
theorem dX9_wordOf_83 : decode cX9_wordOf 83 = .ok (.iconst (-1), 1) := dk_2 (dk_at dksX9_wordOf_2 23 rfl rfl)
theorem dX9_wordOf_84 : decode cX9_wordOf 84 = .ok (.ireturn, 1) := dk_172 (dk_at dksX9_wordOf_3 0 rfl rfl)
def dkwX9_doesErrands_4 : List UInt8 := [167, 255, 169, 27, 172]
abbrev dktX9_doesErrands_4 : List UInt8 := dkwX9_doesErrands_4 ++ []
def dkwX9_doesErrands_3 : List UInt8 := [167, 0, 19, 42, 180, 0, 13, 16, 28, 92, 46, 4, 28, 120, 128, 79, 132, 1, 1, 132, 2, 1]
abbrev dktX9_doesErrands_3 : List UInt8 := dkwX9_doesErrands_3 ++ dktX9_doesErrands_4
def dkwX9_doesErrands_2 : List UInt8 := [160, 0, 41, 42, 180, 0, 13, 16, 26, 46, 42, 180, 0, 13, 16, 21, 28, 96, 46, 164, 0, 6]
abbrev dktX9_doesErrands_2 : List UInt8 := dkwX9_doesErrands_2 ++ dktX9_doesErrands_3
def dkwX9_doesErrands_1 : List UInt8 := [184, 1, 4, 154, 0, 62, 42, 180, 0, 13, 16, 16, 28, 96, 46, 42, 180, 0, 13, 16, 35, 28, 96, 46]
abbrev dktX9_doesErrands_1 : List UInt8 := dkwX9_doesErrands_1 ++ dktX9_doesErrands_2
def dkwX9_doesErrands_0 : List UInt8 := [3, 60, 3, 61, 28, 42, 180, 0, 13, 6, 46, 162, 0, 83, 42, 180, 0, 13, 16, 28, 46, 133, 28]
abbrev dktX9_doesErrands_0 : List UInt8 := dkwX9_doesErrands_0 ++ dktX9_doesErrands_1
theorem dksX9_doesErrands_0 : cX9_doesErrands.data.toList.drop 0 = dktX9_doesErrands_0 := by decide +kernel
theorem dksX9_doesErrands_1 : cX9_doesErrands.data.toList.drop 23 = dktX9_doesErrands_1 := dk_seg dksX9_doesErrands_0 23 rfl rfl
theorem dksX9_doesErrands_2 : cX9_doesErrands.data.toList.drop 47 = dktX9_doesErrands_2 := dk_seg dksX9_doesErrands_1 24 rfl rfl
theorem dksX9_doesErrands_3 : cX9_doesErrands.data.toList.drop 69 = dktX9_doesErrands_3 := dk_seg dksX9_doesErrands_2 22 rfl rfl
theorem dksX9_doesErrands_4 : cX9_doesErrands.data.toList.drop 91 = dktX9_doesErrands_4 := dk_seg dksX9_doesErrands_3 22 rfl rfl
theorem dX9_doesErrands_0 : decode cX9_doesErrands 0 = .ok (.iconst 0, 1) := dk_3 (dk_at dksX9_doesErrands_0 0 rfl rfl)
theorem dX9_doesErrands_1 : decode cX9_doesErrands 1 = .ok (.istore_n 1, 1) := dk_60 (dk_at dksX9_doesErrands_0 1 rfl rfl)
theorem dX9_doesErrands_2 : decode cX9_doesErrands 2 = .ok (.iconst 0, 1) := dk_3 (dk_at dksX9_doesErrands_0 2 rfl rfl)
theorem dX9_doesErrands_3 : decode cX9_doesErrands 3 = .ok (.istore_n 2, 1) := dk_61 (dk_at dksX9_doesErrands_0 3 rfl rfl)
theorem dX9_doesErrands_4 : decode cX9_doesErrands 4 = .ok (.iload_n 2, 1) := dk_28 (dk_at dksX9_doesErrands_0 4 rfl rfl)
theorem dX9_doesErrands_5 : decode cX9_doesErrands 5 = .ok (.aload_n 0, 1) := dk_42 (dk_at dksX9_doesErrands_0 5 rfl rfl)
theorem dX9_doesErrands_6 : decode cX9_doesErrands 6 = .ok (.getfield 13, 3) := dk_180 0 13 (dk_at dksX9_doesErrands_0 6 rfl rfl)
theorem dX9_doesErrands_9 : decode cX9_doesErrands 9 = .ok (.iconst 3, 1) := dk_6 (dk_at dksX9_doesErrands_0 9 rfl rfl)
theorem dX9_doesErrands_10 : decode cX9_doesErrands 10 = .ok (.iaload, 1) := dk_46 (dk_at dksX9_doesErrands_0 10 rfl rfl)
theorem dX9_doesErrands_11 : decode cX9_doesErrands 11 = .ok (.if_icmp .ge 83, 3) := dk_162 0 83 (dk_at dksX9_doesErrands_0 11 rfl rfl)
theorem dX9_doesErrands_14 : decode cX9_doesErrands 14 = .ok (.aload_n 0, 1) := dk_42 (dk_at dksX9_doesErrands_0 14 rfl rfl)
theorem dX9_doesErrands_15 : decode cX9_doesErrands 15 = .ok (.getfield 13, 3) := dk_180 0 13 (dk_at dksX9_doesErrands_0 15 rfl rfl)
theorem dX9_doesErrands_18 : decode cX9_doesErrands 18 = .ok (.bipush 28, 2) := dk_16 28 (dk_at dksX9_doesErrands_0 18 rfl rfl)
theorem dX9_doesErrands_20 : decode cX9_doesErrands 20 = .ok (.iaload, 1) := dk_46 (dk_at dksX9_doesErrands_0 20 rfl rfl)
theorem dX9_doesErrands_21 : decode cX9_doesErrands 21 = .ok (.i2l, 1) := dk_133 (dk_at dksX9_doesErrands_0 21 rfl rfl)
theorem dX9_doesErrands_22 : decode cX9_doesErrands 22 = .ok (.iload_n 2, 1) := dk_28 (dk_at dksX9_doesErrands_0 22 rfl rfl)
theorem dX9_doesErrands_23 : decode cX9_doesErrands 23 = .ok (.invokestatic 260, 3) := dk_184 1 4 (dk_at dksX9_doesErrands_1 0 rfl rfl)
theorem dX9_doesErrands_26 : decode cX9_doesErrands 26 = .ok (.ifCond .ne 62, 3) := dk_154 0 62 (dk_at dksX9_doesErrands_1 3 rfl rfl)
theorem dX9_doesErrands_29 : decode cX9_doesErrands 29 = .ok (.aload_n 0, 1) := dk_42 (dk_at dksX9_doesErrands_1 6 rfl rfl)
theorem dX9_doesErrands_30 : decode cX9_doesErrands 30 = .ok (.getfield 13, 3) := dk_180 0 13 (dk_at dksX9_doesErrands_1 7 rfl rfl)
theorem dX9_doesErrands_33 : decode cX9_doesErrands 33 = .ok (.bipush 16, 2) := dk_16 16 (dk_at dksX9_doesErrands_1 10 rfl rfl)
theorem dX9_doesErrands_35 : decode cX9_doesErrands 35 = .ok (.iload_n 2, 1) := dk_28 (dk_at dksX9_doesErrands_1 12 rfl rfl)
theorem dX9_doesErrands_36 : decode cX9_doesErrands 36 = .ok (.iadd, 1) := dk_96 (dk_at dksX9_doesErrands_1 13 rfl rfl)
theorem dX9_doesErrands_37 : decode cX9_doesErrands 37 = .ok (.iaload, 1) := dk_46 (dk_at dksX9_doesErrands_1 14 rfl rfl)
theorem dX9_doesErrands_38 : decode cX9_doesErrands 38 = .ok (.aload_n 0, 1) := dk_42 (dk_at dksX9_doesErrands_1 15 rfl rfl)
theorem dX9_doesErrands_39 : decode cX9_doesErrands 39 = .ok (.getfield 13, 3) := dk_180 0 13 (dk_at dksX9_doesErrands_1 16 rfl rfl)
theorem dX9_doesErrands_42 : decode cX9_doesErrands 42 = .ok (.bipush 35, 2) := dk_16 35 (dk_at dksX9_doesErrands_1 19 rfl rfl)
theorem dX9_doesErrands_44 : decode cX9_doesErrands 44 = .ok (.iload_n 2, 1) := dk_28 (dk_at dksX9_doesErrands_1 21 rfl rfl)
theorem dX9_doesErrands_45 : decode cX9_doesErrands 45 = .ok (.iadd, 1) := dk_96 (dk_at dksX9_doesErrands_1 22 rfl rfl)
theorem dX9_doesErrands_46 : decode cX9_doesErrands 46 = .ok (.iaload, 1) := dk_46 (dk_at dksX9_doesErrands_1 23 rfl rfl)
theorem dX9_doesErrands_47 : decode cX9_doesErrands 47 = .ok (.if_icmp .ne 41, 3) := dk_160 0 41 (dk_at dksX9_doesErrands_2 0 rfl rfl)
theorem dX9_doesErrands_50 : decode cX9_doesErrands 50 = .ok (.aload_n 0, 1) := dk_42 (dk_at dksX9_doesErrands_2 3 rfl rfl)
theorem dX9_doesErrands_51 : decode cX9_doesErrands 51 = .ok (.getfield 13, 3) := dk_180 0 13 (dk_at dksX9_doesErrands_2 4 rfl rfl)
theorem dX9_doesErrands_54 : decode cX9_doesErrands 54 = .ok (.bipush 26, 2) := dk_16 26 (dk_at dksX9_doesErrands_2 7 rfl rfl)
theorem dX9_doesErrands_56 : decode cX9_doesErrands 56 = .ok (.iaload, 1) := dk_46 (dk_at dksX9_doesErrands_2 9 rfl rfl)
theorem dX9_doesErrands_57 : decode cX9_doesErrands 57 = .ok (.aload_n 0, 1) := dk_42 (dk_at dksX9_doesErrands_2 10 rfl rfl)
theorem dX9_doesErrands_58 : decode cX9_doesErrands 58 = .ok (.getfield 13, 3) := dk_180 0 13 (dk_at dksX9_doesErrands_2 11 rfl rfl)
theorem dX9_doesErrands_61 : decode cX9_doesErrands 61 = .ok (.bipush 21, 2) := dk_16 21 (dk_at dksX9_doesErrands_2 14 rfl rfl)
theorem dX9_doesErrands_63 : decode cX9_doesErrands 63 = .ok (.iload_n 2, 1) := dk_28 (dk_at dksX9_doesErrands_2 16 rfl rfl)
theorem dX9_doesErrands_64 : decode cX9_doesErrands 64 = .ok (.iadd, 1) := dk_96 (dk_at dksX9_doesErrands_2 17 rfl rfl)
theorem dX9_doesErrands_65 : decode cX9_doesErrands 65 = .ok (.iaload, 1) := dk_46 (dk_at dksX9_doesErrands_2 18 rfl rfl)
theorem dX9_doesErrands_66 : decode cX9_doesErrands 66 = .ok (.if_icmp .le 6, 3) := dk_164 0 6 (dk_at dksX9_doesErrands_2 19 rfl rfl)
theorem dX9_doesErrands_69 : decode cX9_doesErrands 69 = .ok (.goto 19, 3) := dk_167 0 19 (dk_at dksX9_doesErrands_3 0 rfl rfl)
theorem dX9_doesErrands_72 : decode cX9_doesErrands 72 = .ok (.aload_n 0, 1) := dk_42 (dk_at dksX9_doesErrands_3 3 rfl rfl)
theorem dX9_doesErrands_73 : decode cX9_doesErrands 73 = .ok (.getfield 13, 3) := dk_180 0 13 (dk_at dksX9_doesErrands_3 4 rfl rfl)
theorem dX9_doesErrands_76 : decode cX9_doesErrands 76 = .ok (.bipush 28, 2) := dk_16 28 (dk_at dksX9_doesErrands_3 7 rfl rfl)
theorem dX9_doesErrands_78 : decode cX9_doesErrands 78 = .ok (.dup2, 1) := dk_92 (dk_at dksX9_doesErrands_3 9 rfl rfl)
theorem dX9_doesErrands_79 : decode cX9_doesErrands 79 = .ok (.iaload, 1) := dk_46 (dk_at dksX9_doesErrands_3 10 rfl rfl)
theorem dX9_doesErrands_80 : decode cX9_doesErrands 80 = .ok (.iconst 1, 1) := dk_4 (dk_at dksX9_doesErrands_3 11 rfl rfl)
theorem dX9_doesErrands_81 : decode cX9_doesErrands 81 = .ok (.iload_n 2, 1) := dk_28 (dk_at dksX9_doesErrands_3 12 rfl rfl)
theorem dX9_doesErrands_82 : decode cX9_doesErrands 82 = .ok (.ishl, 1) := dk_120 (dk_at dksX9_doesErrands_3 13 rfl rfl)
theorem dX9_doesErrands_83 : decode cX9_doesErrands 83 = .ok (.ior, 1) := dk_128 (dk_at dksX9_doesErrands_3 14 rfl rfl)
theorem dX9_doesErrands_84 : decode cX9_doesErrands 84 = .ok (.iastore, 1) := dk_79 (dk_at dksX9_doesErrands_3 15 rfl rfl)
theorem dX9_doesErrands_85 : decode cX9_doesErrands 85 = .ok (.iinc 1 1, 3) := dk_132 1 1 (dk_at dksX9_doesErrands_3 16 rfl rfl)
theorem dX9_doesErrands_88 : decode cX9_doesErrands 88 = .ok (.iinc 2 1, 3) := dk_132 2 1 (dk_at dksX9_doesErrands_3 19 rfl rfl)
theorem dX9_doesErrands_91 : decode cX9_doesErrands 91 = .ok (.goto (-87), 3) := dk_167 255 169 (dk_at dksX9_doesErrands_4 0 rfl rfl)
theorem dX9_doesErrands_94 : decode cX9_doesErrands 94 = .ok (.iload_n 1, 1) := dk_27 (dk_at dksX9_doesErrands_4 3 rfl rfl)
theorem dX9_doesErrands_95 : decode cX9_doesErrands 95 = .ok (.ireturn, 1) := dk_172 (dk_at dksX9_doesErrands_4 4 rfl rfl)
def dkwX9_isIn_0 : List UInt8 := [30, 28, 123, 10, 127, 10, 148, 154, 0, 7, 4, 167, 0, 4, 3, 172]
abbrev dktX9_isIn_0 : List UInt8 := dkwX9_isIn_0 ++ []
theorem dksX9_isIn_0 : cX9_isIn.data.toList.drop 0 = dktX9_isIn_0 := by decide +kernel
theorem dX9_isIn_0 : decode cX9_isIn 0 = .ok (.lload_n 0, 1) := dk_30 (dk_at dksX9_isIn_0 0 rfl rfl)
theorem dX9_isIn_1 : decode cX9_isIn 1 = .ok (.iload_n 2, 1) := dk_28 (dk_at dksX9_isIn_0 1 rfl rfl)
theorem dX9_isIn_2 : decode cX9_isIn 2 = .ok (.lshr, 1) := dk_123 (dk_at dksX9_isIn_0 2 rfl rfl)
theorem dX9_isIn_3 : decode cX9_isIn 3 = .ok (.lconst 1, 1) := dk_10 (dk_at dksX9_isIn_0 3 rfl rfl)
theorem dX9_isIn_4 : decode cX9_isIn 4 = .ok (.land, 1) := dk_127 (dk_at dksX9_isIn_0 4 rfl rfl)
theorem dX9_isIn_5 : decode cX9_isIn 5 = .ok (.lconst 1, 1) := dk_10 (dk_at dksX9_isIn_0 5 rfl rfl)
theorem dX9_isIn_6 : decode cX9_isIn 6 = .ok (.lcmp, 1) := dk_148 (dk_at dksX9_isIn_0 6 rfl rfl)
theorem dX9_isIn_7 : decode cX9_isIn 7 = .ok (.ifCond .ne 7, 3) := dk_154 0 7 (dk_at dksX9_isIn_0 7 rfl rfl)
theorem dX9_isIn_10 : decode cX9_isIn 10 = .ok (.iconst 1, 1) := dk_4 (dk_at dksX9_isIn_0 10 rfl rfl)
theorem dX9_isIn_11 : decode cX9_isIn 11 = .ok (.goto 4, 3) := dk_167 0 4 (dk_at dksX9_isIn_0 11 rfl rfl)
theorem dX9_isIn_14 : decode cX9_isIn 14 = .ok (.iconst 0, 1) := dk_3 (dk_at dksX9_isIn_0 14 rfl rfl)
theorem dX9_isIn_15 : decode cX9_isIn 15 = .ok (.ireturn, 1) := dk_172 (dk_at dksX9_isIn_0 15 rfl rfl)
def dkwX9_fault_1 : List UInt8 := [180, 0, 27, 167, 0, 4, 2, 172]
abbrev dktX9_fault_1 : List UInt8 := dkwX9_fault_1 ++ []
def dkwX9_fault_0 : List UInt8 := [42, 3, 181, 0, 1, 27, 154, 0, 10, 42, 180, 0, 219, 167, 0, 16, 27, 4, 160, 0, 10, 42]
abbrev dktX9_fault_0 : List UInt8 := dkwX9_fault_0 ++ dktX9_fault_1
theorem dksX9_fault_0 : cX9_fault.data.toList.drop 0 = dktX9_fault_0 := by decide +kernel
theorem dksX9_fault_1 : cX9_fault.data.toList.drop 22 = dktX9_fault_1 := dk_seg dksX9_fault_0 22 rfl rfl
theorem dX9_fault_0 : decode cX9_fault 0 = .ok (.aload_n 0, 1) := dk_42 (dk_at dksX9_fault_0 0 rfl rfl)
theorem dX9_fault_1 : decode cX9_fault 1 = .ok (.iconst 0, 1) := dk_3 (dk_at dksX9_fault_0 1 rfl rfl)
theorem dX9_fault_2 : decode cX9_fault 2 = .ok (.putfield 1, 3) := dk_181 0 1 (dk_at dksX9_fault_0 2 rfl rfl)
theorem dX9_fault_5 : decode cX9_fault 5 = .ok (.iload_n 1, 1) := dk_27 (dk_at dksX9_fault_0 5 rfl rfl)
theorem dX9_fault_6 : decode cX9_fault 6 = .ok (.ifCond .ne 10, 3) := dk_154 0 10 (dk_at dksX9_fault_0 6 rfl rfl)
theorem dX9_fault_9 : decode cX9_fault 9 = .ok (.aload_n 0, 1) := dk_42 (dk_at dksX9_fault_0 9 rfl rfl)
theorem dX9_fault_10 : decode cX9_fault 10 = .ok (.getfield 219, 3) := dk_180 0 219 (dk_at dksX9_fault_0 10 rfl rfl)
theorem dX9_fault_13 : decode cX9_fault 13 = .ok (.goto 16, 3) := dk_167 0 16 (dk_at dksX9_fault_0 13 rfl rfl)
theorem dX9_fault_16 : decode cX9_fault 16 = .ok (.iload_n 1, 1) := dk_27 (dk_at dksX9_fault_0 16 rfl rfl)
theorem dX9_fault_17 : decode cX9_fault 17 = .ok (.iconst 1, 1) := dk_4 (dk_at dksX9_fault_0 17 rfl rfl)
theorem dX9_fault_18 : decode cX9_fault 18 = .ok (.if_icmp .ne 10, 3) := dk_160 0 10 (dk_at dksX9_fault_0 18 rfl rfl)
theorem dX9_fault_21 : decode cX9_fault 21 = .ok (.aload_n 0, 1) := dk_42 (dk_at dksX9_fault_0 21 rfl rfl)
theorem dX9_fault_22 : decode cX9_fault 22 = .ok (.getfield 27, 3) := dk_180 0 27 (dk_at dksX9_fault_1 0 rfl rfl)
theorem dX9_fault_25 : decode cX9_fault 25 = .ok (.goto 4, 3) := dk_167 0 4 (dk_at dksX9_fault_1 3 rfl rfl)
theorem dX9_fault_28 : decode cX9_fault 28 = .ok (.iconst (-1), 1) := dk_2 (dk_at dksX9_fault_1 6 rfl rfl)
theorem dX9_fault_29 : decode cX9_fault 29 = .ok (.ireturn, 1) := dk_172 (dk_at dksX9_fault_1 7 rfl rfl)
def dkwX9_span_1 : List UInt8 := [46, 27, 96, 182, 0, 235, 167, 0, 5, 16, 253, 172]
abbrev dktX9_span_1 : List UInt8 := dkwX9_span_1 ++ []
def dkwX9_span_0 : List UInt8 := [42, 3, 181, 0, 1, 27, 133, 9, 20, 1, 2, 184, 0, 157, 153, 0, 19, 42, 42, 180, 0, 13, 16, 26]
abbrev dktX9_span_0 : List UInt8 := dkwX9_span_0 ++ dktX9_span_1
theorem dksX9_span_0 : cX9_span.data.toList.drop 0 = dktX9_span_0 := by decide +kernel
theorem dksX9_span_1 : cX9_span.data.toList.drop 24 = dktX9_span_1 := dk_seg dksX9_span_0 24 rfl rfl
theorem dX9_span_0 : decode cX9_span 0 = .ok (.aload_n 0, 1) := dk_42 (dk_at dksX9_span_0 0 rfl rfl)
theorem dX9_span_1 : decode cX9_span 1 = .ok (.iconst 0, 1) := dk_3 (dk_at dksX9_span_0 1 rfl rfl)
theorem dX9_span_2 : decode cX9_span 2 = .ok (.putfield 1, 3) := dk_181 0 1 (dk_at dksX9_span_0 2 rfl rfl)
theorem dX9_span_5 : decode cX9_span 5 = .ok (.iload_n 1, 1) := dk_27 (dk_at dksX9_span_0 5 rfl rfl)
theorem dX9_span_6 : decode cX9_span 6 = .ok (.i2l, 1) := dk_133 (dk_at dksX9_span_0 6 rfl rfl)
theorem dX9_span_7 : decode cX9_span 7 = .ok (.lconst 0, 1) := dk_9 (dk_at dksX9_span_0 7 rfl rfl)
theorem dX9_span_8 : decode cX9_span 8 = .ok (.ldc2_w 258, 3) := dk_20 1 2 (dk_at dksX9_span_0 8 rfl rfl)
theorem dX9_span_11 : decode cX9_span 11 = .ok (.invokestatic 157, 3) := dk_184 0 157 (dk_at dksX9_span_0 11 rfl rfl)
theorem dX9_span_14 : decode cX9_span 14 = .ok (.ifCond .eq 19, 3) := dk_153 0 19 (dk_at dksX9_span_0 14 rfl rfl)
theorem dX9_span_17 : decode cX9_span 17 = .ok (.aload_n 0, 1) := dk_42 (dk_at dksX9_span_0 17 rfl rfl)
theorem dX9_span_18 : decode cX9_span 18 = .ok (.aload_n 0, 1) := dk_42 (dk_at dksX9_span_0 18 rfl rfl)
theorem dX9_span_19 : decode cX9_span 19 = .ok (.getfield 13, 3) := dk_180 0 13 (dk_at dksX9_span_0 19 rfl rfl)
theorem dX9_span_22 : decode cX9_span 22 = .ok (.bipush 26, 2) := dk_16 26 (dk_at dksX9_span_0 22 rfl rfl)
theorem dX9_span_24 : decode cX9_span 24 = .ok (.iaload, 1) := dk_46 (dk_at dksX9_span_1 0 rfl rfl)
theorem dX9_span_25 : decode cX9_span 25 = .ok (.iload_n 1, 1) := dk_27 (dk_at dksX9_span_1 1 rfl rfl)
theorem dX9_span_26 : decode cX9_span 26 = .ok (.iadd, 1) := dk_96 (dk_at dksX9_span_1 2 rfl rfl)
theorem dX9_span_27 : decode cX9_span 27 = .ok (.invokevirtual 235, 3) := dk_182 0 235 (dk_at dksX9_span_1 3 rfl rfl)
theorem dX9_span_30 : decode cX9_span 30 = .ok (.goto 5, 3) := dk_167 0 5 (dk_at dksX9_span_1 6 rfl rfl)
theorem dX9_span_33 : decode cX9_span 33 = .ok (.bipush (-3), 2) := dk_16 253 (dk_at dksX9_span_1 9 rfl rfl)
theorem dX9_span_35 : decode cX9_span 35 = .ok (.ireturn, 1) := dk_172 (dk_at dksX9_span_1 11 rfl rfl)
def dkwX9_spanIn_0 : List UInt8 := [42, 180, 0, 13, 16, 29, 27, 42, 180, 0, 13, 5, 46, 112, 96, 46, 172]
abbrev dktX9_spanIn_0 : List UInt8 := dkwX9_spanIn_0 ++ []
theorem dksX9_spanIn_0 : cX9_spanIn.data.toList.drop 0 = dktX9_spanIn_0 := by decide +kernel
theorem dX9_spanIn_0 : decode cX9_spanIn 0 = .ok (.aload_n 0, 1) := dk_42 (dk_at dksX9_spanIn_0 0 rfl rfl)
theorem dX9_spanIn_1 : decode cX9_spanIn 1 = .ok (.getfield 13, 3) := dk_180 0 13 (dk_at dksX9_spanIn_0 1 rfl rfl)
theorem dX9_spanIn_4 : decode cX9_spanIn 4 = .ok (.bipush 29, 2) := dk_16 29 (dk_at dksX9_spanIn_0 4 rfl rfl)
theorem dX9_spanIn_6 : decode cX9_spanIn 6 = .ok (.iload_n 1, 1) := dk_27 (dk_at dksX9_spanIn_0 6 rfl rfl)
theorem dX9_spanIn_7 : decode cX9_spanIn 7 = .ok (.aload_n 0, 1) := dk_42 (dk_at dksX9_spanIn_0 7 rfl rfl)
theorem dX9_spanIn_8 : decode cX9_spanIn 8 = .ok (.getfield 13, 3) := dk_180 0 13 (dk_at dksX9_spanIn_0 8 rfl rfl)
theorem dX9_spanIn_11 : decode cX9_spanIn 11 = .ok (.iconst 2, 1) := dk_5 (dk_at dksX9_spanIn_0 11 rfl rfl)
theorem dX9_spanIn_12 : decode cX9_spanIn 12 = .ok (.iaload, 1) := dk_46 (dk_at dksX9_spanIn_0 12 rfl rfl)
theorem dX9_spanIn_13 : decode cX9_spanIn 13 = .ok (.irem, 1) := dk_112 (dk_at dksX9_spanIn_0 13 rfl rfl)
theorem dX9_spanIn_14 : decode cX9_spanIn 14 = .ok (.iadd, 1) := dk_96 (dk_at dksX9_spanIn_0 14 rfl rfl)
theorem dX9_spanIn_15 : decode cX9_spanIn 15 = .ok (.iaload, 1) := dk_46 (dk_at dksX9_spanIn_0 15 rfl rfl)
theorem dX9_spanIn_16 : decode cX9_spanIn 16 = .ok (.ireturn, 1) := dk_172 (dk_at dksX9_spanIn_0 16 rfl rfl)
def dkwX9_person_5 : List UInt8 := [16, 254, 172]
abbrev dktX9_person_5 : List UInt8 := dkwX9_person_5 ++ []
def dkwX9_person_4 : List UInt8 := [27, 184, 1, 4, 153, 0, 7, 4, 167, 0, 4, 3, 172, 42, 180, 0, 13, 16, 40, 27, 96, 46, 172]
abbrev dktX9_person_4 : List UInt8 := dkwX9_person_4 ++ dktX9_person_5
def dkwX9_person_3 : List UInt8 := [16, 16, 27, 96, 46, 172, 42, 180, 0, 13, 16, 21, 27, 96, 46, 172, 42, 180, 0, 13, 16, 28, 46, 133]
abbrev dktX9_person_3 : List UInt8 := dkwX9_person_3 ++ dktX9_person_4
def dkwX9_person_2 : List UInt8 := [42, 180, 0, 13, 16, 35, 27, 96, 46, 172, 42, 180, 0, 13, 16, 11, 27, 96, 46, 172, 42, 180, 0, 13]
abbrev dktX9_person_2 : List UInt8 := dkwX9_person_2 ++ dktX9_person_3
def dkwX9_person_1 : List UInt8 := [170, 0, 0, 0, 0, 109, 0, 0, 0, 0, 0, 0, 0, 5, 0, 0, 0, 38, 0, 0, 0, 48, 0, 0, 0, 58, 0, 0, 0, 68, 0, 0, 0, 78, 0, 0, 0, 99]
abbrev dktX9_person_1 : List UInt8 := dkwX9_person_1 ++ dktX9_person_2
def dkwX9_person_0 : List UInt8 := [42, 3, 181, 0, 1, 42, 27, 133, 182, 0, 245, 154, 0, 6, 16, 254, 172, 28]
abbrev dktX9_person_0 : List UInt8 := dkwX9_person_0 ++ dktX9_person_1
theorem dksX9_person_0 : cX9_person.data.toList.drop 0 = dktX9_person_0 := by decide +kernel
theorem dksX9_person_1 : cX9_person.data.toList.drop 18 = dktX9_person_1 := dk_seg dksX9_person_0 18 rfl rfl
theorem dksX9_person_2 : cX9_person.data.toList.drop 56 = dktX9_person_2 := dk_seg dksX9_person_1 38 rfl rfl
theorem dksX9_person_3 : cX9_person.data.toList.drop 80 = dktX9_person_3 := dk_seg dksX9_person_2 24 rfl rfl
theorem dksX9_person_4 : cX9_person.data.toList.drop 104 = dktX9_person_4 := dk_seg dksX9_person_3 24 rfl rfl
theorem dksX9_person_5 : cX9_person.data.toList.drop 127 = dktX9_person_5 := dk_seg dksX9_person_4 23 rfl rfl
theorem dX9_person_0 : decode cX9_person 0 = .ok (.aload_n 0, 1) := dk_42 (dk_at dksX9_person_0 0 rfl rfl)
theorem dX9_person_1 : decode cX9_person 1 = .ok (.iconst 0, 1) := dk_3 (dk_at dksX9_person_0 1 rfl rfl)
theorem dX9_person_2 : decode cX9_person 2 = .ok (.putfield 1, 3) := dk_181 0 1 (dk_at dksX9_person_0 2 rfl rfl)
theorem dX9_person_5 : decode cX9_person 5 = .ok (.aload_n 0, 1) := dk_42 (dk_at dksX9_person_0 5 rfl rfl)
theorem dX9_person_6 : decode cX9_person 6 = .ok (.iload_n 1, 1) := dk_27 (dk_at dksX9_person_0 6 rfl rfl)
theorem dX9_person_7 : decode cX9_person 7 = .ok (.i2l, 1) := dk_133 (dk_at dksX9_person_0 7 rfl rfl)
theorem dX9_person_8 : decode cX9_person 8 = .ok (.invokevirtual 245, 3) := dk_182 0 245 (dk_at dksX9_person_0 8 rfl rfl)
theorem dX9_person_11 : decode cX9_person 11 = .ok (.ifCond .ne 6, 3) := dk_154 0 6 (dk_at dksX9_person_0 11 rfl rfl)
theorem dX9_person_14 : decode cX9_person 14 = .ok (.bipush (-2), 2) := dk_16 254 (dk_at dksX9_person_0 14 rfl rfl)
theorem dX9_person_16 : decode cX9_person 16 = .ok (.ireturn, 1) := dk_172 (dk_at dksX9_person_0 16 rfl rfl)
theorem dX9_person_17 : decode cX9_person 17 = .ok (.iload_n 2, 1) := dk_28 (dk_at dksX9_person_0 17 rfl rfl)
theorem dX9_person_18 : decode cX9_person 18 = .ok (.tableswitch 109 0 5 #[38, 48, 58, 68, 78, 99], 38) := by decide +kernel
theorem dX9_person_56 : decode cX9_person 56 = .ok (.aload_n 0, 1) := dk_42 (dk_at dksX9_person_2 0 rfl rfl)
theorem dX9_person_57 : decode cX9_person 57 = .ok (.getfield 13, 3) := dk_180 0 13 (dk_at dksX9_person_2 1 rfl rfl)
theorem dX9_person_60 : decode cX9_person 60 = .ok (.bipush 35, 2) := dk_16 35 (dk_at dksX9_person_2 4 rfl rfl)
theorem dX9_person_62 : decode cX9_person 62 = .ok (.iload_n 1, 1) := dk_27 (dk_at dksX9_person_2 6 rfl rfl)
theorem dX9_person_63 : decode cX9_person 63 = .ok (.iadd, 1) := dk_96 (dk_at dksX9_person_2 7 rfl rfl)
theorem dX9_person_64 : decode cX9_person 64 = .ok (.iaload, 1) := dk_46 (dk_at dksX9_person_2 8 rfl rfl)
theorem dX9_person_65 : decode cX9_person 65 = .ok (.ireturn, 1) := dk_172 (dk_at dksX9_person_2 9 rfl rfl)
theorem dX9_person_66 : decode cX9_person 66 = .ok (.aload_n 0, 1) := dk_42 (dk_at dksX9_person_2 10 rfl rfl)
theorem dX9_person_67 : decode cX9_person 67 = .ok (.getfield 13, 3) := dk_180 0 13 (dk_at dksX9_person_2 11 rfl rfl)
theorem dX9_person_70 : decode cX9_person 70 = .ok (.bipush 11, 2) := dk_16 11 (dk_at dksX9_person_2 14 rfl rfl)
theorem dX9_person_72 : decode cX9_person 72 = .ok (.iload_n 1, 1) := dk_27 (dk_at dksX9_person_2 16 rfl rfl)
theorem dX9_person_73 : decode cX9_person 73 = .ok (.iadd, 1) := dk_96 (dk_at dksX9_person_2 17 rfl rfl)
theorem dX9_person_74 : decode cX9_person 74 = .ok (.iaload, 1) := dk_46 (dk_at dksX9_person_2 18 rfl rfl)
theorem dX9_person_75 : decode cX9_person 75 = .ok (.ireturn, 1) := dk_172 (dk_at dksX9_person_2 19 rfl rfl)
theorem dX9_person_76 : decode cX9_person 76 = .ok (.aload_n 0, 1) := dk_42 (dk_at dksX9_person_2 20 rfl rfl)
theorem dX9_person_77 : decode cX9_person 77 = .ok (.getfield 13, 3) := dk_180 0 13 (dk_at dksX9_person_2 21 rfl rfl)
theorem dX9_person_80 : decode cX9_person 80 = .ok (.bipush 16, 2) := dk_16 16 (dk_at dksX9_person_3 0 rfl rfl)
theorem dX9_person_82 : decode cX9_person 82 = .ok (.iload_n 1, 1) := dk_27 (dk_at dksX9_person_3 2 rfl rfl)
theorem dX9_person_83 : decode cX9_person 83 = .ok (.iadd, 1) := dk_96 (dk_at dksX9_person_3 3 rfl rfl)
theorem dX9_person_84 : decode cX9_person 84 = .ok (.iaload, 1) := dk_46 (dk_at dksX9_person_3 4 rfl rfl)
theorem dX9_person_85 : decode cX9_person 85 = .ok (.ireturn, 1) := dk_172 (dk_at dksX9_person_3 5 rfl rfl)
theorem dX9_person_86 : decode cX9_person 86 = .ok (.aload_n 0, 1) := dk_42 (dk_at dksX9_person_3 6 rfl rfl)
theorem dX9_person_87 : decode cX9_person 87 = .ok (.getfield 13, 3) := dk_180 0 13 (dk_at dksX9_person_3 7 rfl rfl)
theorem dX9_person_90 : decode cX9_person 90 = .ok (.bipush 21, 2) := dk_16 21 (dk_at dksX9_person_3 10 rfl rfl)
theorem dX9_person_92 : decode cX9_person 92 = .ok (.iload_n 1, 1) := dk_27 (dk_at dksX9_person_3 12 rfl rfl)
theorem dX9_person_93 : decode cX9_person 93 = .ok (.iadd, 1) := dk_96 (dk_at dksX9_person_3 13 rfl rfl)
theorem dX9_person_94 : decode cX9_person 94 = .ok (.iaload, 1) := dk_46 (dk_at dksX9_person_3 14 rfl rfl)
theorem dX9_person_95 : decode cX9_person 95 = .ok (.ireturn, 1) := dk_172 (dk_at dksX9_person_3 15 rfl rfl)
theorem dX9_person_96 : decode cX9_person 96 = .ok (.aload_n 0, 1) := dk_42 (dk_at dksX9_person_3 16 rfl rfl)
theorem dX9_person_97 : decode cX9_person 97 = .ok (.getfield 13, 3) := dk_180 0 13 (dk_at dksX9_person_3 17 rfl rfl)
theorem dX9_person_100 : decode cX9_person 100 = .ok (.bipush 28, 2) := dk_16 28 (dk_at dksX9_person_3 20 rfl rfl)
theorem dX9_person_102 : decode cX9_person 102 = .ok (.iaload, 1) := dk_46 (dk_at dksX9_person_3 22 rfl rfl)
theorem dX9_person_103 : decode cX9_person 103 = .ok (.i2l, 1) := dk_133 (dk_at dksX9_person_3 23 rfl rfl)
theorem dX9_person_104 : decode cX9_person 104 = .ok (.iload_n 1, 1) := dk_27 (dk_at dksX9_person_4 0 rfl rfl)
theorem dX9_person_105 : decode cX9_person 105 = .ok (.invokestatic 260, 3) := dk_184 1 4 (dk_at dksX9_person_4 1 rfl rfl)
theorem dX9_person_108 : decode cX9_person 108 = .ok (.ifCond .eq 7, 3) := dk_153 0 7 (dk_at dksX9_person_4 4 rfl rfl)
theorem dX9_person_111 : decode cX9_person 111 = .ok (.iconst 1, 1) := dk_4 (dk_at dksX9_person_4 7 rfl rfl)
theorem dX9_person_112 : decode cX9_person 112 = .ok (.goto 4, 3) := dk_167 0 4 (dk_at dksX9_person_4 8 rfl rfl)
theorem dX9_person_115 : decode cX9_person 115 = .ok (.iconst 0, 1) := dk_3 (dk_at dksX9_person_4 11 rfl rfl)
theorem dX9_person_116 : decode cX9_person 116 = .ok (.ireturn, 1) := dk_172 (dk_at dksX9_person_4 12 rfl rfl)
theorem dX9_person_117 : decode cX9_person 117 = .ok (.aload_n 0, 1) := dk_42 (dk_at dksX9_person_4 13 rfl rfl)
theorem dX9_person_118 : decode cX9_person 118 = .ok (.getfield 13, 3) := dk_180 0 13 (dk_at dksX9_person_4 14 rfl rfl)
theorem dX9_person_121 : decode cX9_person 121 = .ok (.bipush 40, 2) := dk_16 40 (dk_at dksX9_person_4 17 rfl rfl)
theorem dX9_person_123 : decode cX9_person 123 = .ok (.iload_n 1, 1) := dk_27 (dk_at dksX9_person_4 19 rfl rfl)
theorem dX9_person_124 : decode cX9_person 124 = .ok (.iadd, 1) := dk_96 (dk_at dksX9_person_4 20 rfl rfl)
theorem dX9_person_125 : decode cX9_person 125 = .ok (.iaload, 1) := dk_46 (dk_at dksX9_person_4 21 rfl rfl)
theorem dX9_person_126 : decode cX9_person 126 = .ok (.ireturn, 1) := dk_172 (dk_at dksX9_person_4 22 rfl rfl)
theorem dX9_person_127 : decode cX9_person 127 = .ok (.bipush (-2), 2) := dk_16 254 (dk_at dksX9_person_5 0 rfl rfl)
theorem dX9_person_129 : decode cX9_person 129 = .ok (.ireturn, 1) := dk_172 (dk_at dksX9_person_5 2 rfl rfl)
def dkwX9_isPerson_0 : List UInt8 := [31, 9, 42, 180, 0, 13, 6, 46, 4, 100, 133, 184, 0, 157, 172]
abbrev dktX9_isPerson_0 : List UInt8 := dkwX9_isPerson_0 ++ []
theorem dksX9_isPerson_0 : cX9_isPerson.data.toList.drop 0 = dktX9_isPerson_0 := by decide +kernel
theorem dX9_isPerson_0 : decode cX9_isPerson 0 = .ok (.lload_n 1, 1) := dk_31 (dk_at dksX9_isPerson_0 0 rfl rfl)
theorem dX9_isPerson_1 : decode cX9_isPerson 1 = .ok (.lconst 0, 1) := dk_9 (dk_at dksX9_isPerson_0 1 rfl rfl)
theorem dX9_isPerson_2 : decode cX9_isPerson 2 = .ok (.aload_n 0, 1) := dk_42 (dk_at dksX9_isPerson_0 2 rfl rfl)
theorem dX9_isPerson_3 : decode cX9_isPerson 3 = .ok (.getfield 13, 3) := dk_180 0 13 (dk_at dksX9_isPerson_0 3 rfl rfl)
theorem dX9_isPerson_6 : decode cX9_isPerson 6 = .ok (.iconst 3, 1) := dk_6 (dk_at dksX9_isPerson_0 6 rfl rfl)
theorem dX9_isPerson_7 : decode cX9_isPerson 7 = .ok (.iaload, 1) := dk_46 (dk_at dksX9_isPerson_0 7 rfl rfl)
theorem dX9_isPerson_8 : decode cX9_isPerson 8 = .ok (.iconst 1, 1) := dk_4 (dk_at dksX9_isPerson_0 8 rfl rfl)
theorem dX9_isPerson_9 : decode cX9_isPerson 9 = .ok (.isub, 1) := dk_100 (dk_at dksX9_isPerson_0 9 rfl rfl)
theorem dX9_isPerson_10 : decode cX9_isPerson 10 = .ok (.i2l, 1) := dk_133 (dk_at dksX9_isPerson_0 10 rfl rfl)
theorem dX9_isPerson_11 : decode cX9_isPerson 11 = .ok (.invokestatic 157, 3) := dk_184 0 157 (dk_at dksX9_isPerson_0 11 rfl rfl)
theorem dX9_isPerson_14 : decode cX9_isPerson 14 = .ok (.ireturn, 1) := dk_172 (dk_at dksX9_isPerson_0 14 rfl rfl)
def dkwX9_why_0 : List UInt8 := [42, 3, 181, 0, 1, 42, 27, 133, 28, 133, 182, 1, 8, 172]
abbrev dktX9_why_0 : List UInt8 := dkwX9_why_0 ++ []
theorem dksX9_why_0 : cX9_why.data.toList.drop 0 = dktX9_why_0 := by decide +kernel
theorem dX9_why_0 : decode cX9_why 0 = .ok (.aload_n 0, 1) := dk_42 (dk_at dksX9_why_0 0 rfl rfl)
theorem dX9_why_1 : decode cX9_why 1 = .ok (.iconst 0, 1) := dk_3 (dk_at dksX9_why_0 1 rfl rfl)
theorem dX9_why_2 : decode cX9_why 2 = .ok (.putfield 1, 3) := dk_181 0 1 (dk_at dksX9_why_0 2 rfl rfl)
theorem dX9_why_5 : decode cX9_why 5 = .ok (.aload_n 0, 1) := dk_42 (dk_at dksX9_why_0 5 rfl rfl)
theorem dX9_why_6 : decode cX9_why 6 = .ok (.iload_n 1, 1) := dk_27 (dk_at dksX9_why_0 6 rfl rfl)
theorem dX9_why_7 : decode cX9_why 7 = .ok (.i2l, 1) := dk_133 (dk_at dksX9_why_0 7 rfl rfl)
theorem dX9_why_8 : decode cX9_why 8 = .ok (.iload_n 2, 1) := dk_28 (dk_at dksX9_why_0 8 rfl rfl)
theorem dX9_why_9 : decode cX9_why 9 = .ok (.i2l, 1) := dk_133 (dk_at dksX9_why_0 9 rfl rfl)
theorem dX9_why_10 : decode cX9_why 10 = .ok (.invokevirtual 264, 3) := dk_182 1 8 (dk_at dksX9_why_0 10 rfl rfl)
theorem dX9_why_13 : decode cX9_why 13 = .ok (.ireturn, 1) := dk_172 (dk_at dksX9_why_0 13 rfl rfl)
def dkwX9_whyTold_2 : List UInt8 := [182, 0, 254, 172]
abbrev dktX9_whyTold_2 : List UInt8 := dkwX9_whyTold_2 ++ []
def dkwX9_whyTold_1 : List UInt8 := [42, 180, 0, 13, 16, 35, 31, 136, 96, 46, 33, 136, 42, 180, 0, 13, 16, 26, 46, 42, 3, 182, 0, 251]
abbrev dktX9_whyTold_1 : List UInt8 := dkwX9_whyTold_1 ++ dktX9_whyTold_2
def dkwX9_whyTold_0 : List UInt8 := [42, 31, 182, 0, 245, 153, 0, 14, 33, 9, 20, 0, 249, 184, 0, 157, 154, 0, 5, 4, 172, 42, 31, 136]
abbrev dktX9_whyTold_0 : List UInt8 := dkwX9_whyTold_0 ++ dktX9_whyTold_1
theorem dksX9_whyTold_0 : cX9_whyTold.data.toList.drop 0 = dktX9_whyTold_0 := by decide +kernel
theorem dksX9_whyTold_1 : cX9_whyTold.data.toList.drop 24 = dktX9_whyTold_1 := dk_seg dksX9_whyTold_0 24 rfl rfl
theorem dksX9_whyTold_2 : cX9_whyTold.data.toList.drop 48 = dktX9_whyTold_2 := dk_seg dksX9_whyTold_1 24 rfl rfl
theorem dX9_whyTold_0 : decode cX9_whyTold 0 = .ok (.aload_n 0, 1) := dk_42 (dk_at dksX9_whyTold_0 0 rfl rfl)
theorem dX9_whyTold_1 : decode cX9_whyTold 1 = .ok (.lload_n 1, 1) := dk_31 (dk_at dksX9_whyTold_0 1 rfl rfl)
theorem dX9_whyTold_2 : decode cX9_whyTold 2 = .ok (.invokevirtual 245, 3) := dk_182 0 245 (dk_at dksX9_whyTold_0 2 rfl rfl)
theorem dX9_whyTold_5 : decode cX9_whyTold 5 = .ok (.ifCond .eq 14, 3) := dk_153 0 14 (dk_at dksX9_whyTold_0 5 rfl rfl)
theorem dX9_whyTold_8 : decode cX9_whyTold 8 = .ok (.lload_n 3, 1) := dk_33 (dk_at dksX9_whyTold_0 8 rfl rfl)
theorem dX9_whyTold_9 : decode cX9_whyTold 9 = .ok (.lconst 0, 1) := dk_9 (dk_at dksX9_whyTold_0 9 rfl rfl)
theorem dX9_whyTold_10 : decode cX9_whyTold 10 = .ok (.ldc2_w 249, 3) := dk_20 0 249 (dk_at dksX9_whyTold_0 10 rfl rfl)
theorem dX9_whyTold_13 : decode cX9_whyTold 13 = .ok (.invokestatic 157, 3) := dk_184 0 157 (dk_at dksX9_whyTold_0 13 rfl rfl)
theorem dX9_whyTold_16 : decode cX9_whyTold 16 = .ok (.ifCond .ne 5, 3) := dk_154 0 5 (dk_at dksX9_whyTold_0 16 rfl rfl)
theorem dX9_whyTold_19 : decode cX9_whyTold 19 = .ok (.iconst 1, 1) := dk_4 (dk_at dksX9_whyTold_0 19 rfl rfl)
theorem dX9_whyTold_20 : decode cX9_whyTold 20 = .ok (.ireturn, 1) := dk_172 (dk_at dksX9_whyTold_0 20 rfl rfl)
theorem dX9_whyTold_21 : decode cX9_whyTold 21 = .ok (.aload_n 0, 1) := dk_42 (dk_at dksX9_whyTold_0 21 rfl rfl)
theorem dX9_whyTold_22 : decode cX9_whyTold 22 = .ok (.lload_n 1, 1) := dk_31 (dk_at dksX9_whyTold_0 22 rfl rfl)
theorem dX9_whyTold_23 : decode cX9_whyTold 23 = .ok (.l2i, 1) := dk_136 (dk_at dksX9_whyTold_0 23 rfl rfl)
theorem dX9_whyTold_24 : decode cX9_whyTold 24 = .ok (.aload_n 0, 1) := dk_42 (dk_at dksX9_whyTold_1 0 rfl rfl)
theorem dX9_whyTold_25 : decode cX9_whyTold 25 = .ok (.getfield 13, 3) := dk_180 0 13 (dk_at dksX9_whyTold_1 1 rfl rfl)
theorem dX9_whyTold_28 : decode cX9_whyTold 28 = .ok (.bipush 35, 2) := dk_16 35 (dk_at dksX9_whyTold_1 4 rfl rfl)
theorem dX9_whyTold_30 : decode cX9_whyTold 30 = .ok (.lload_n 1, 1) := dk_31 (dk_at dksX9_whyTold_1 6 rfl rfl)
theorem dX9_whyTold_31 : decode cX9_whyTold 31 = .ok (.l2i, 1) := dk_136 (dk_at dksX9_whyTold_1 7 rfl rfl)
theorem dX9_whyTold_32 : decode cX9_whyTold 32 = .ok (.iadd, 1) := dk_96 (dk_at dksX9_whyTold_1 8 rfl rfl)
theorem dX9_whyTold_33 : decode cX9_whyTold 33 = .ok (.iaload, 1) := dk_46 (dk_at dksX9_whyTold_1 9 rfl rfl)
theorem dX9_whyTold_34 : decode cX9_whyTold 34 = .ok (.lload_n 3, 1) := dk_33 (dk_at dksX9_whyTold_1 10 rfl rfl)
theorem dX9_whyTold_35 : decode cX9_whyTold 35 = .ok (.l2i, 1) := dk_136 (dk_at dksX9_whyTold_1 11 rfl rfl)
theorem dX9_whyTold_36 : decode cX9_whyTold 36 = .ok (.aload_n 0, 1) := dk_42 (dk_at dksX9_whyTold_1 12 rfl rfl)
theorem dX9_whyTold_37 : decode cX9_whyTold 37 = .ok (.getfield 13, 3) := dk_180 0 13 (dk_at dksX9_whyTold_1 13 rfl rfl)
theorem dX9_whyTold_40 : decode cX9_whyTold 40 = .ok (.bipush 26, 2) := dk_16 26 (dk_at dksX9_whyTold_1 16 rfl rfl)
theorem dX9_whyTold_42 : decode cX9_whyTold 42 = .ok (.iaload, 1) := dk_46 (dk_at dksX9_whyTold_1 18 rfl rfl)
theorem dX9_whyTold_43 : decode cX9_whyTold 43 = .ok (.aload_n 0, 1) := dk_42 (dk_at dksX9_whyTold_1 19 rfl rfl)
theorem dX9_whyTold_44 : decode cX9_whyTold 44 = .ok (.iconst 0, 1) := dk_3 (dk_at dksX9_whyTold_1 20 rfl rfl)
theorem dX9_whyTold_45 : decode cX9_whyTold 45 = .ok (.invokevirtual 251, 3) := dk_182 0 251 (dk_at dksX9_whyTold_1 21 rfl rfl)
theorem dX9_whyTold_48 : decode cX9_whyTold 48 = .ok (.invokevirtual 254, 3) := dk_182 0 254 (dk_at dksX9_whyTold_2 0 rfl rfl)
theorem dX9_whyTold_51 : decode cX9_whyTold 51 = .ok (.ireturn, 1) := dk_172 (dk_at dksX9_whyTold_2 3 rfl rfl)
def dkwX9_fogIn_0 : List UInt8 := [27, 42, 180, 0, 13, 16, 27, 46, 162, 0, 7, 4, 167, 0, 4, 3, 172]
abbrev dktX9_fogIn_0 : List UInt8 := dkwX9_fogIn_0 ++ []
theorem dksX9_fogIn_0 : cX9_fogIn.data.toList.drop 0 = dktX9_fogIn_0 := by decide +kernel
theorem dX9_fogIn_0 : decode cX9_fogIn 0 = .ok (.iload_n 1, 1) := dk_27 (dk_at dksX9_fogIn_0 0 rfl rfl)
theorem dX9_fogIn_1 : decode cX9_fogIn 1 = .ok (.aload_n 0, 1) := dk_42 (dk_at dksX9_fogIn_0 1 rfl rfl)
theorem dX9_fogIn_2 : decode cX9_fogIn 2 = .ok (.getfield 13, 3) := dk_180 0 13 (dk_at dksX9_fogIn_0 2 rfl rfl)
theorem dX9_fogIn_5 : decode cX9_fogIn 5 = .ok (.bipush 27, 2) := dk_16 27 (dk_at dksX9_fogIn_0 5 rfl rfl)
theorem dX9_fogIn_7 : decode cX9_fogIn 7 = .ok (.iaload, 1) := dk_46 (dk_at dksX9_fogIn_0 7 rfl rfl)
theorem dX9_fogIn_8 : decode cX9_fogIn 8 = .ok (.if_icmp .ge 7, 3) := dk_162 0 7 (dk_at dksX9_fogIn_0 8 rfl rfl)
theorem dX9_fogIn_11 : decode cX9_fogIn 11 = .ok (.iconst 1, 1) := dk_4 (dk_at dksX9_fogIn_0 11 rfl rfl)
theorem dX9_fogIn_12 : decode cX9_fogIn 12 = .ok (.goto 4, 3) := dk_167 0 4 (dk_at dksX9_fogIn_0 12 rfl rfl)
theorem dX9_fogIn_15 : decode cX9_fogIn 15 = .ok (.iconst 0, 1) := dk_3 (dk_at dksX9_fogIn_0 15 rfl rfl)
theorem dX9_fogIn_16 : decode cX9_fogIn 16 = .ok (.ireturn, 1) := dk_172 (dk_at dksX9_fogIn_0 16 rfl rfl)
def dkwX9_whyAct_3 : List UInt8 := [112, 182, 0, 241, 153, 0, 7, 3, 167, 0, 4, 6, 172]
abbrev dktX9_whyAct_3 : List UInt8 := dkwX9_whyAct_3 ++ []
def dkwX9_whyAct_2 : List UInt8 := [162, 0, 7, 3, 167, 0, 4, 4, 27, 21, 7, 21, 4, 42, 180, 0, 13, 5, 46, 112, 21, 5, 28, 5]
abbrev dktX9_whyAct_2 : List UInt8 := dkwX9_whyAct_2 ++ dktX9_whyAct_3
def dkwX9_whyAct_1 : List UInt8 := [160, 0, 5, 5, 172, 28, 16, 8, 160, 0, 8, 21, 6, 167, 0, 6, 28, 5, 108, 54, 7, 42, 29, 6]
abbrev dktX9_whyAct_1 : List UInt8 := dkwX9_whyAct_1 ++ dktX9_whyAct_2
def dkwX9_whyAct_0 : List UInt8 := [29, 154, 0, 5, 3, 172, 42, 21, 4, 182, 0, 235, 54, 6, 42, 28, 29, 21, 6, 182, 0, 238, 2]
abbrev dktX9_whyAct_0 : List UInt8 := dkwX9_whyAct_0 ++ dktX9_whyAct_1
theorem dksX9_whyAct_0 : cX9_whyAct.data.toList.drop 0 = dktX9_whyAct_0 := by decide +kernel
theorem dksX9_whyAct_1 : cX9_whyAct.data.toList.drop 23 = dktX9_whyAct_1 := dk_seg dksX9_whyAct_0 23 rfl rfl
theorem dksX9_whyAct_2 : cX9_whyAct.data.toList.drop 47 = dktX9_whyAct_2 := dk_seg dksX9_whyAct_1 24 rfl rfl
theorem dksX9_whyAct_3 : cX9_whyAct.data.toList.drop 71 = dktX9_whyAct_3 := dk_seg dksX9_whyAct_2 24 rfl rfl
theorem dX9_whyAct_0 : decode cX9_whyAct 0 = .ok (.iload_n 3, 1) := dk_29 (dk_at dksX9_whyAct_0 0 rfl rfl)
theorem dX9_whyAct_1 : decode cX9_whyAct 1 = .ok (.ifCond .ne 5, 3) := dk_154 0 5 (dk_at dksX9_whyAct_0 1 rfl rfl)
theorem dX9_whyAct_4 : decode cX9_whyAct 4 = .ok (.iconst 0, 1) := dk_3 (dk_at dksX9_whyAct_0 4 rfl rfl)
theorem dX9_whyAct_5 : decode cX9_whyAct 5 = .ok (.ireturn, 1) := dk_172 (dk_at dksX9_whyAct_0 5 rfl rfl)
theorem dX9_whyAct_6 : decode cX9_whyAct 6 = .ok (.aload_n 0, 1) := dk_42 (dk_at dksX9_whyAct_0 6 rfl rfl)
theorem dX9_whyAct_7 : decode cX9_whyAct 7 = .ok (.iload 4, 2) := dk_21 4 (dk_at dksX9_whyAct_0 7 rfl rfl)
theorem dX9_whyAct_9 : decode cX9_whyAct 9 = .ok (.invokevirtual 235, 3) := dk_182 0 235 (dk_at dksX9_whyAct_0 9 rfl rfl)
theorem dX9_whyAct_12 : decode cX9_whyAct 12 = .ok (.istore 6, 2) := dk_54 6 (dk_at dksX9_whyAct_0 12 rfl rfl)
theorem dX9_whyAct_14 : decode cX9_whyAct 14 = .ok (.aload_n 0, 1) := dk_42 (dk_at dksX9_whyAct_0 14 rfl rfl)
theorem dX9_whyAct_15 : decode cX9_whyAct 15 = .ok (.iload_n 2, 1) := dk_28 (dk_at dksX9_whyAct_0 15 rfl rfl)
theorem dX9_whyAct_16 : decode cX9_whyAct 16 = .ok (.iload_n 3, 1) := dk_29 (dk_at dksX9_whyAct_0 16 rfl rfl)
theorem dX9_whyAct_17 : decode cX9_whyAct 17 = .ok (.iload 6, 2) := dk_21 6 (dk_at dksX9_whyAct_0 17 rfl rfl)
theorem dX9_whyAct_19 : decode cX9_whyAct 19 = .ok (.invokevirtual 238, 3) := dk_182 0 238 (dk_at dksX9_whyAct_0 19 rfl rfl)
theorem dX9_whyAct_22 : decode cX9_whyAct 22 = .ok (.iconst (-1), 1) := dk_2 (dk_at dksX9_whyAct_0 22 rfl rfl)
theorem dX9_whyAct_23 : decode cX9_whyAct 23 = .ok (.if_icmp .ne 5, 3) := dk_160 0 5 (dk_at dksX9_whyAct_1 0 rfl rfl)
theorem dX9_whyAct_26 : decode cX9_whyAct 26 = .ok (.iconst 2, 1) := dk_5 (dk_at dksX9_whyAct_1 3 rfl rfl)
theorem dX9_whyAct_27 : decode cX9_whyAct 27 = .ok (.ireturn, 1) := dk_172 (dk_at dksX9_whyAct_1 4 rfl rfl)
theorem dX9_whyAct_28 : decode cX9_whyAct 28 = .ok (.iload_n 2, 1) := dk_28 (dk_at dksX9_whyAct_1 5 rfl rfl)
theorem dX9_whyAct_29 : decode cX9_whyAct 29 = .ok (.bipush 8, 2) := dk_16 8 (dk_at dksX9_whyAct_1 6 rfl rfl)
theorem dX9_whyAct_31 : decode cX9_whyAct 31 = .ok (.if_icmp .ne 8, 3) := dk_160 0 8 (dk_at dksX9_whyAct_1 8 rfl rfl)
theorem dX9_whyAct_34 : decode cX9_whyAct 34 = .ok (.iload 6, 2) := dk_21 6 (dk_at dksX9_whyAct_1 11 rfl rfl)
theorem dX9_whyAct_36 : decode cX9_whyAct 36 = .ok (.goto 6, 3) := dk_167 0 6 (dk_at dksX9_whyAct_1 13 rfl rfl)
theorem dX9_whyAct_39 : decode cX9_whyAct 39 = .ok (.iload_n 2, 1) := dk_28 (dk_at dksX9_whyAct_1 16 rfl rfl)
theorem dX9_whyAct_40 : decode cX9_whyAct 40 = .ok (.iconst 2, 1) := dk_5 (dk_at dksX9_whyAct_1 17 rfl rfl)
theorem dX9_whyAct_41 : decode cX9_whyAct 41 = .ok (.idiv, 1) := dk_108 (dk_at dksX9_whyAct_1 18 rfl rfl)
theorem dX9_whyAct_42 : decode cX9_whyAct 42 = .ok (.istore 7, 2) := dk_54 7 (dk_at dksX9_whyAct_1 19 rfl rfl)
theorem dX9_whyAct_44 : decode cX9_whyAct 44 = .ok (.aload_n 0, 1) := dk_42 (dk_at dksX9_whyAct_1 21 rfl rfl)
theorem dX9_whyAct_45 : decode cX9_whyAct 45 = .ok (.iload_n 3, 1) := dk_29 (dk_at dksX9_whyAct_1 22 rfl rfl)
theorem dX9_whyAct_46 : decode cX9_whyAct 46 = .ok (.iconst 3, 1) := dk_6 (dk_at dksX9_whyAct_1 23 rfl rfl)
theorem dX9_whyAct_47 : decode cX9_whyAct 47 = .ok (.if_icmp .ge 7, 3) := dk_162 0 7 (dk_at dksX9_whyAct_2 0 rfl rfl)
theorem dX9_whyAct_50 : decode cX9_whyAct 50 = .ok (.iconst 0, 1) := dk_3 (dk_at dksX9_whyAct_2 3 rfl rfl)
theorem dX9_whyAct_51 : decode cX9_whyAct 51 = .ok (.goto 4, 3) := dk_167 0 4 (dk_at dksX9_whyAct_2 4 rfl rfl)
theorem dX9_whyAct_54 : decode cX9_whyAct 54 = .ok (.iconst 1, 1) := dk_4 (dk_at dksX9_whyAct_2 7 rfl rfl)
theorem dX9_whyAct_55 : decode cX9_whyAct 55 = .ok (.iload_n 1, 1) := dk_27 (dk_at dksX9_whyAct_2 8 rfl rfl)
theorem dX9_whyAct_56 : decode cX9_whyAct 56 = .ok (.iload 7, 2) := dk_21 7 (dk_at dksX9_whyAct_2 9 rfl rfl)
theorem dX9_whyAct_58 : decode cX9_whyAct 58 = .ok (.iload 4, 2) := dk_21 4 (dk_at dksX9_whyAct_2 11 rfl rfl)
theorem dX9_whyAct_60 : decode cX9_whyAct 60 = .ok (.aload_n 0, 1) := dk_42 (dk_at dksX9_whyAct_2 13 rfl rfl)
theorem dX9_whyAct_61 : decode cX9_whyAct 61 = .ok (.getfield 13, 3) := dk_180 0 13 (dk_at dksX9_whyAct_2 14 rfl rfl)
theorem dX9_whyAct_64 : decode cX9_whyAct 64 = .ok (.iconst 2, 1) := dk_5 (dk_at dksX9_whyAct_2 17 rfl rfl)
theorem dX9_whyAct_65 : decode cX9_whyAct 65 = .ok (.iaload, 1) := dk_46 (dk_at dksX9_whyAct_2 18 rfl rfl)
theorem dX9_whyAct_66 : decode cX9_whyAct 66 = .ok (.irem, 1) := dk_112 (dk_at dksX9_whyAct_2 19 rfl rfl)
theorem dX9_whyAct_67 : decode cX9_whyAct 67 = .ok (.iload 5, 2) := dk_21 5 (dk_at dksX9_whyAct_2 20 rfl rfl)
theorem dX9_whyAct_69 : decode cX9_whyAct 69 = .ok (.iload_n 2, 1) := dk_28 (dk_at dksX9_whyAct_2 22 rfl rfl)
theorem dX9_whyAct_70 : decode cX9_whyAct 70 = .ok (.iconst 2, 1) := dk_5 (dk_at dksX9_whyAct_2 23 rfl rfl)
theorem dX9_whyAct_71 : decode cX9_whyAct 71 = .ok (.irem, 1) := dk_112 (dk_at dksX9_whyAct_3 0 rfl rfl)
theorem dX9_whyAct_72 : decode cX9_whyAct 72 = .ok (.invokevirtual 241, 3) := dk_182 0 241 (dk_at dksX9_whyAct_3 1 rfl rfl)
theorem dX9_whyAct_75 : decode cX9_whyAct 75 = .ok (.ifCond .eq 7, 3) := dk_153 0 7 (dk_at dksX9_whyAct_3 4 rfl rfl)
theorem dX9_whyAct_78 : decode cX9_whyAct 78 = .ok (.iconst 0, 1) := dk_3 (dk_at dksX9_whyAct_3 7 rfl rfl)
theorem dX9_whyAct_79 : decode cX9_whyAct 79 = .ok (.goto 4, 3) := dk_167 0 4 (dk_at dksX9_whyAct_3 8 rfl rfl)
theorem dX9_whyAct_82 : decode cX9_whyAct 82 = .ok (.iconst 3, 1) := dk_6 (dk_at dksX9_whyAct_3 11 rfl rfl)
theorem dX9_whyAct_83 : decode cX9_whyAct 83 = .ok (.ireturn, 1) := dk_172 (dk_at dksX9_whyAct_3 12 rfl rfl)
def dkwX9_leads_4 : List UInt8 := [160, 0, 9, 27, 4, 130, 167, 0, 5, 16, 8, 172]
abbrev dktX9_leads_4 : List UInt8 := dkwX9_leads_4 ++ []
def dkwX9_leads_3 : List UInt8 := [2, 167, 0, 6, 27, 5, 100, 172, 28, 7, 163, 0, 10, 27, 5, 108, 29, 159, 0, 5, 2, 172, 28, 6]
abbrev dktX9_leads_3 : List UInt8 := dkwX9_leads_3 ++ dktX9_leads_4
def dkwX9_leads_2 : List UInt8 := [46, 4, 100, 160, 0, 7, 2, 167, 0, 6, 27, 5, 96, 172, 28, 5, 160, 0, 16, 27, 5, 162, 0, 7]
abbrev dktX9_leads_2 : List UInt8 := dkwX9_leads_2 ++ dktX9_leads_3
def dkwX9_leads_1 : List UInt8 := [167, 0, 10, 5, 29, 104, 28, 96, 8, 100, 172, 28, 4, 160, 0, 25, 27, 5, 108, 42, 180, 0, 13, 4]
abbrev dktX9_leads_1 : List UInt8 := dkwX9_leads_1 ++ dktX9_leads_2
def dkwX9_leads_0 : List UInt8 := [28, 154, 0, 5, 27, 172, 27, 16, 8, 160, 0, 25, 28, 8, 161, 0, 8, 29, 2, 160, 0, 7, 2]
abbrev dktX9_leads_0 : List UInt8 := dkwX9_leads_0 ++ dktX9_leads_1
theorem dksX9_leads_0 : cX9_leads.data.toList.drop 0 = dktX9_leads_0 := by decide +kernel
theorem dksX9_leads_1 : cX9_leads.data.toList.drop 23 = dktX9_leads_1 := dk_seg dksX9_leads_0 23 rfl rfl
theorem dksX9_leads_2 : cX9_leads.data.toList.drop 47 = dktX9_leads_2 := dk_seg dksX9_leads_1 24 rfl rfl
theorem dksX9_leads_3 : cX9_leads.data.toList.drop 71 = dktX9_leads_3 := dk_seg dksX9_leads_2 24 rfl rfl
theorem dksX9_leads_4 : cX9_leads.data.toList.drop 95 = dktX9_leads_4 := dk_seg dksX9_leads_3 24 rfl rfl
theorem dX9_leads_0 : decode cX9_leads 0 = .ok (.iload_n 2, 1) := dk_28 (dk_at dksX9_leads_0 0 rfl rfl)
theorem dX9_leads_1 : decode cX9_leads 1 = .ok (.ifCond .ne 5, 3) := dk_154 0 5 (dk_at dksX9_leads_0 1 rfl rfl)
theorem dX9_leads_4 : decode cX9_leads 4 = .ok (.iload_n 1, 1) := dk_27 (dk_at dksX9_leads_0 4 rfl rfl)
theorem dX9_leads_5 : decode cX9_leads 5 = .ok (.ireturn, 1) := dk_172 (dk_at dksX9_leads_0 5 rfl rfl)
theorem dX9_leads_6 : decode cX9_leads 6 = .ok (.iload_n 1, 1) := dk_27 (dk_at dksX9_leads_0 6 rfl rfl)
theorem dX9_leads_7 : decode cX9_leads 7 = .ok (.bipush 8, 2) := dk_16 8 (dk_at dksX9_leads_0 7 rfl rfl)
theorem dX9_leads_9 : decode cX9_leads 9 = .ok (.if_icmp .ne 25, 3) := dk_160 0 25 (dk_at dksX9_leads_0 9 rfl rfl)
theorem dX9_leads_12 : decode cX9_leads 12 = .ok (.iload_n 2, 1) := dk_28 (dk_at dksX9_leads_0 12 rfl rfl)
theorem dX9_leads_13 : decode cX9_leads 13 = .ok (.iconst 5, 1) := dk_8 (dk_at dksX9_leads_0 13 rfl rfl)
theorem dX9_leads_14 : decode cX9_leads 14 = .ok (.if_icmp .lt 8, 3) := dk_161 0 8 (dk_at dksX9_leads_0 14 rfl rfl)
theorem dX9_leads_17 : decode cX9_leads 17 = .ok (.iload_n 3, 1) := dk_29 (dk_at dksX9_leads_0 17 rfl rfl)
theorem dX9_leads_18 : decode cX9_leads 18 = .ok (.iconst (-1), 1) := dk_2 (dk_at dksX9_leads_0 18 rfl rfl)
theorem dX9_leads_19 : decode cX9_leads 19 = .ok (.if_icmp .ne 7, 3) := dk_160 0 7 (dk_at dksX9_leads_0 19 rfl rfl)
theorem dX9_leads_22 : decode cX9_leads 22 = .ok (.iconst (-1), 1) := dk_2 (dk_at dksX9_leads_0 22 rfl rfl)
theorem dX9_leads_23 : decode cX9_leads 23 = .ok (.goto 10, 3) := dk_167 0 10 (dk_at dksX9_leads_1 0 rfl rfl)
theorem dX9_leads_26 : decode cX9_leads 26 = .ok (.iconst 2, 1) := dk_5 (dk_at dksX9_leads_1 3 rfl rfl)
theorem dX9_leads_27 : decode cX9_leads 27 = .ok (.iload_n 3, 1) := dk_29 (dk_at dksX9_leads_1 4 rfl rfl)
theorem dX9_leads_28 : decode cX9_leads 28 = .ok (.imul, 1) := dk_104 (dk_at dksX9_leads_1 5 rfl rfl)
theorem dX9_leads_29 : decode cX9_leads 29 = .ok (.iload_n 2, 1) := dk_28 (dk_at dksX9_leads_1 6 rfl rfl)
theorem dX9_leads_30 : decode cX9_leads 30 = .ok (.iadd, 1) := dk_96 (dk_at dksX9_leads_1 7 rfl rfl)
theorem dX9_leads_31 : decode cX9_leads 31 = .ok (.iconst 5, 1) := dk_8 (dk_at dksX9_leads_1 8 rfl rfl)
theorem dX9_leads_32 : decode cX9_leads 32 = .ok (.isub, 1) := dk_100 (dk_at dksX9_leads_1 9 rfl rfl)
theorem dX9_leads_33 : decode cX9_leads 33 = .ok (.ireturn, 1) := dk_172 (dk_at dksX9_leads_1 10 rfl rfl)
theorem dX9_leads_34 : decode cX9_leads 34 = .ok (.iload_n 2, 1) := dk_28 (dk_at dksX9_leads_1 11 rfl rfl)
theorem dX9_leads_35 : decode cX9_leads 35 = .ok (.iconst 1, 1) := dk_4 (dk_at dksX9_leads_1 12 rfl rfl)
theorem dX9_leads_36 : decode cX9_leads 36 = .ok (.if_icmp .ne 25, 3) := dk_160 0 25 (dk_at dksX9_leads_1 13 rfl rfl)
theorem dX9_leads_39 : decode cX9_leads 39 = .ok (.iload_n 1, 1) := dk_27 (dk_at dksX9_leads_1 16 rfl rfl)
theorem dX9_leads_40 : decode cX9_leads 40 = .ok (.iconst 2, 1) := dk_5 (dk_at dksX9_leads_1 17 rfl rfl)
theorem dX9_leads_41 : decode cX9_leads 41 = .ok (.idiv, 1) := dk_108 (dk_at dksX9_leads_1 18 rfl rfl)
theorem dX9_leads_42 : decode cX9_leads 42 = .ok (.aload_n 0, 1) := dk_42 (dk_at dksX9_leads_1 19 rfl rfl)
theorem dX9_leads_43 : decode cX9_leads 43 = .ok (.getfield 13, 3) := dk_180 0 13 (dk_at dksX9_leads_1 20 rfl rfl)
theorem dX9_leads_46 : decode cX9_leads 46 = .ok (.iconst 1, 1) := dk_4 (dk_at dksX9_leads_1 23 rfl rfl)
theorem dX9_leads_47 : decode cX9_leads 47 = .ok (.iaload, 1) := dk_46 (dk_at dksX9_leads_2 0 rfl rfl)
theorem dX9_leads_48 : decode cX9_leads 48 = .ok (.iconst 1, 1) := dk_4 (dk_at dksX9_leads_2 1 rfl rfl)
theorem dX9_leads_49 : decode cX9_leads 49 = .ok (.isub, 1) := dk_100 (dk_at dksX9_leads_2 2 rfl rfl)
theorem dX9_leads_50 : decode cX9_leads 50 = .ok (.if_icmp .ne 7, 3) := dk_160 0 7 (dk_at dksX9_leads_2 3 rfl rfl)
theorem dX9_leads_53 : decode cX9_leads 53 = .ok (.iconst (-1), 1) := dk_2 (dk_at dksX9_leads_2 6 rfl rfl)
theorem dX9_leads_54 : decode cX9_leads 54 = .ok (.goto 6, 3) := dk_167 0 6 (dk_at dksX9_leads_2 7 rfl rfl)
theorem dX9_leads_57 : decode cX9_leads 57 = .ok (.iload_n 1, 1) := dk_27 (dk_at dksX9_leads_2 10 rfl rfl)
theorem dX9_leads_58 : decode cX9_leads 58 = .ok (.iconst 2, 1) := dk_5 (dk_at dksX9_leads_2 11 rfl rfl)
theorem dX9_leads_59 : decode cX9_leads 59 = .ok (.iadd, 1) := dk_96 (dk_at dksX9_leads_2 12 rfl rfl)
theorem dX9_leads_60 : decode cX9_leads 60 = .ok (.ireturn, 1) := dk_172 (dk_at dksX9_leads_2 13 rfl rfl)
theorem dX9_leads_61 : decode cX9_leads 61 = .ok (.iload_n 2, 1) := dk_28 (dk_at dksX9_leads_2 14 rfl rfl)
theorem dX9_leads_62 : decode cX9_leads 62 = .ok (.iconst 2, 1) := dk_5 (dk_at dksX9_leads_2 15 rfl rfl)
theorem dX9_leads_63 : decode cX9_leads 63 = .ok (.if_icmp .ne 16, 3) := dk_160 0 16 (dk_at dksX9_leads_2 16 rfl rfl)
theorem dX9_leads_66 : decode cX9_leads 66 = .ok (.iload_n 1, 1) := dk_27 (dk_at dksX9_leads_2 19 rfl rfl)
theorem dX9_leads_67 : decode cX9_leads 67 = .ok (.iconst 2, 1) := dk_5 (dk_at dksX9_leads_2 20 rfl rfl)
theorem dX9_leads_68 : decode cX9_leads 68 = .ok (.if_icmp .ge 7, 3) := dk_162 0 7 (dk_at dksX9_leads_2 21 rfl rfl)
theorem dX9_leads_71 : decode cX9_leads 71 = .ok (.iconst (-1), 1) := dk_2 (dk_at dksX9_leads_3 0 rfl rfl)
theorem dX9_leads_72 : decode cX9_leads 72 = .ok (.goto 6, 3) := dk_167 0 6 (dk_at dksX9_leads_3 1 rfl rfl)
theorem dX9_leads_75 : decode cX9_leads 75 = .ok (.iload_n 1, 1) := dk_27 (dk_at dksX9_leads_3 4 rfl rfl)
theorem dX9_leads_76 : decode cX9_leads 76 = .ok (.iconst 2, 1) := dk_5 (dk_at dksX9_leads_3 5 rfl rfl)
theorem dX9_leads_77 : decode cX9_leads 77 = .ok (.isub, 1) := dk_100 (dk_at dksX9_leads_3 6 rfl rfl)
theorem dX9_leads_78 : decode cX9_leads 78 = .ok (.ireturn, 1) := dk_172 (dk_at dksX9_leads_3 7 rfl rfl)
theorem dX9_leads_79 : decode cX9_leads 79 = .ok (.iload_n 2, 1) := dk_28 (dk_at dksX9_leads_3 8 rfl rfl)
theorem dX9_leads_80 : decode cX9_leads 80 = .ok (.iconst 4, 1) := dk_7 (dk_at dksX9_leads_3 9 rfl rfl)
theorem dX9_leads_81 : decode cX9_leads 81 = .ok (.if_icmp .gt 10, 3) := dk_163 0 10 (dk_at dksX9_leads_3 10 rfl rfl)
theorem dX9_leads_84 : decode cX9_leads 84 = .ok (.iload_n 1, 1) := dk_27 (dk_at dksX9_leads_3 13 rfl rfl)
theorem dX9_leads_85 : decode cX9_leads 85 = .ok (.iconst 2, 1) := dk_5 (dk_at dksX9_leads_3 14 rfl rfl)
theorem dX9_leads_86 : decode cX9_leads 86 = .ok (.idiv, 1) := dk_108 (dk_at dksX9_leads_3 15 rfl rfl)
theorem dX9_leads_87 : decode cX9_leads 87 = .ok (.iload_n 3, 1) := dk_29 (dk_at dksX9_leads_3 16 rfl rfl)
theorem dX9_leads_88 : decode cX9_leads 88 = .ok (.if_icmp .eq 5, 3) := dk_159 0 5 (dk_at dksX9_leads_3 17 rfl rfl)
theorem dX9_leads_91 : decode cX9_leads 91 = .ok (.iconst (-1), 1) := dk_2 (dk_at dksX9_leads_3 20 rfl rfl)
theorem dX9_leads_92 : decode cX9_leads 92 = .ok (.ireturn, 1) := dk_172 (dk_at dksX9_leads_3 21 rfl rfl)
theorem dX9_leads_93 : decode cX9_leads 93 = .ok (.iload_n 2, 1) := dk_28 (dk_at dksX9_leads_3 22 rfl rfl)
theorem dX9_leads_94 : decode cX9_leads 94 = .ok (.iconst 3, 1) := dk_6 (dk_at dksX9_leads_3 23 rfl rfl)
theorem dX9_leads_95 : decode cX9_leads 95 = .ok (.if_icmp .ne 9, 3) := dk_160 0 9 (dk_at dksX9_leads_4 0 rfl rfl)
theorem dX9_leads_98 : decode cX9_leads 98 = .ok (.iload_n 1, 1) := dk_27 (dk_at dksX9_leads_4 3 rfl rfl)
theorem dX9_leads_99 : decode cX9_leads 99 = .ok (.iconst 1, 1) := dk_4 (dk_at dksX9_leads_4 4 rfl rfl)
theorem dX9_leads_100 : decode cX9_leads 100 = .ok (.ixor, 1) := dk_130 (dk_at dksX9_leads_4 5 rfl rfl)
theorem dX9_leads_101 : decode cX9_leads 101 = .ok (.goto 5, 3) := dk_167 0 5 (dk_at dksX9_leads_4 6 rfl rfl)
theorem dX9_leads_104 : decode cX9_leads 104 = .ok (.bipush 8, 2) := dk_16 8 (dk_at dksX9_leads_4 9 rfl rfl)
theorem dX9_leads_106 : decode cX9_leads 106 = .ok (.ireturn, 1) := dk_172 (dk_at dksX9_leads_4 11 rfl rfl)
def dkwX9_lets_10 : List UInt8 := [180, 0, 30, 3, 46, 4, 160, 0, 7, 4, 167, 0, 4, 3, 172]
abbrev dktX9_lets_10 : List UInt8 := dkwX9_lets_10 ++ []
def dkwX9_lets_9 : List UInt8 := [21, 7, 4, 100, 46, 42, 180, 0, 30, 21, 7, 46, 184, 0, 231, 79, 132, 8, 1, 167, 255, 107, 42]
abbrev dktX9_lets_9 : List UInt8 := dkwX9_lets_9 ++ dktX9_lets_10
def dkwX9_lets_8 : List UInt8 := [100, 46, 100, 79, 167, 0, 36, 132, 7, 255, 42, 180, 0, 30, 21, 7, 4, 100, 21, 9, 42, 180, 0, 30]
abbrev dktX9_lets_8 : List UInt8 := dkwX9_lets_8 ++ dktX9_lets_9
def dkwX9_lets_7 : List UInt8 := [21, 9, 17, 11, 190, 160, 0, 26, 42, 180, 0, 30, 21, 7, 4, 100, 4, 42, 180, 0, 30, 21, 7, 4]
abbrev dktX9_lets_7 : List UInt8 := dkwX9_lets_7 ++ dktX9_lets_8
def dkwX9_lets_6 : List UInt8 := [21, 9, 167, 0, 14, 42, 180, 0, 33, 21, 9, 17, 3, 232, 100, 46, 79, 132, 7, 1, 167, 0, 67]
abbrev dktX9_lets_6 : List UInt8 := dkwX9_lets_6 ++ dktX9_lets_7
def dkwX9_lets_5 : List UInt8 := [54, 9, 21, 9, 17, 11, 184, 162, 0, 40, 42, 180, 0, 30, 21, 7, 21, 9, 17, 3, 232, 162, 0, 8]
abbrev dktX9_lets_5 : List UInt8 := dkwX9_lets_5 ++ dktX9_lets_6
def dkwX9_lets_4 : List UInt8 := [162, 0, 141, 42, 180, 0, 13, 17, 0, 237, 42, 180, 0, 13, 16, 7, 27, 96, 46, 96, 21, 8, 96, 46]
abbrev dktX9_lets_4 : List UInt8 := dkwX9_lets_4 ++ dktX9_lets_5
def dkwX9_lets_3 : List UInt8 := [180, 0, 33, 8, 21, 6, 79, 3, 54, 7, 3, 54, 8, 21, 8, 42, 180, 0, 13, 16, 9, 27, 96, 46]
abbrev dktX9_lets_3 : List UInt8 := dkwX9_lets_3 ++ dktX9_lets_4
def dkwX9_lets_2 : List UInt8 := [42, 180, 0, 33, 6, 42, 180, 0, 13, 16, 11, 28, 96, 46, 79, 42, 180, 0, 33, 7, 21, 5, 79, 42]
abbrev dktX9_lets_2 : List UInt8 := dkwX9_lets_2 ++ dktX9_lets_3
def dkwX9_lets_1 : List UInt8 := [3, 172, 42, 180, 0, 33, 3, 29, 79, 42, 180, 0, 33, 4, 21, 4, 79, 42, 180, 0, 33, 5, 28, 79]
abbrev dktX9_lets_1 : List UInt8 := dkwX9_lets_1 ++ dktX9_lets_2
def dkwX9_lets_0 : List UInt8 := [42, 180, 0, 13, 8, 27, 96, 46, 154, 0, 18, 27, 153, 0, 8, 21, 5, 154, 0, 7, 4, 167, 0, 4]
abbrev dktX9_lets_0 : List UInt8 := dkwX9_lets_0 ++ dktX9_lets_1
theorem dksX9_lets_0 : cX9_lets.data.toList.drop 0 = dktX9_lets_0 := by decide +kernel
theorem dksX9_lets_1 : cX9_lets.data.toList.drop 24 = dktX9_lets_1 := dk_seg dksX9_lets_0 24 rfl rfl
theorem dksX9_lets_2 : cX9_lets.data.toList.drop 48 = dktX9_lets_2 := dk_seg dksX9_lets_1 24 rfl rfl
theorem dksX9_lets_3 : cX9_lets.data.toList.drop 72 = dktX9_lets_3 := dk_seg dksX9_lets_2 24 rfl rfl
theorem dksX9_lets_4 : cX9_lets.data.toList.drop 96 = dktX9_lets_4 := dk_seg dksX9_lets_3 24 rfl rfl
theorem dksX9_lets_5 : cX9_lets.data.toList.drop 120 = dktX9_lets_5 := dk_seg dksX9_lets_4 24 rfl rfl
theorem dksX9_lets_6 : cX9_lets.data.toList.drop 144 = dktX9_lets_6 := dk_seg dksX9_lets_5 24 rfl rfl
theorem dksX9_lets_7 : cX9_lets.data.toList.drop 167 = dktX9_lets_7 := dk_seg dksX9_lets_6 23 rfl rfl
theorem dksX9_lets_8 : cX9_lets.data.toList.drop 191 = dktX9_lets_8 := dk_seg dksX9_lets_7 24 rfl rfl
theorem dksX9_lets_9 : cX9_lets.data.toList.drop 215 = dktX9_lets_9 := dk_seg dksX9_lets_8 24 rfl rfl
theorem dksX9_lets_10 : cX9_lets.data.toList.drop 238 = dktX9_lets_10 := dk_seg dksX9_lets_9 23 rfl rfl
theorem dX9_lets_0 : decode cX9_lets 0 = .ok (.aload_n 0, 1) := dk_42 (dk_at dksX9_lets_0 0 rfl rfl)
theorem dX9_lets_1 : decode cX9_lets 1 = .ok (.getfield 13, 3) := dk_180 0 13 (dk_at dksX9_lets_0 1 rfl rfl)
theorem dX9_lets_4 : decode cX9_lets 4 = .ok (.iconst 5, 1) := dk_8 (dk_at dksX9_lets_0 4 rfl rfl)
theorem dX9_lets_5 : decode cX9_lets 5 = .ok (.iload_n 1, 1) := dk_27 (dk_at dksX9_lets_0 5 rfl rfl)
theorem dX9_lets_6 : decode cX9_lets 6 = .ok (.iadd, 1) := dk_96 (dk_at dksX9_lets_0 6 rfl rfl)
theorem dX9_lets_7 : decode cX9_lets 7 = .ok (.iaload, 1) := dk_46 (dk_at dksX9_lets_0 7 rfl rfl)
theorem dX9_lets_8 : decode cX9_lets 8 = .ok (.ifCond .ne 18, 3) := dk_154 0 18 (dk_at dksX9_lets_0 8 rfl rfl)
theorem dX9_lets_11 : decode cX9_lets 11 = .ok (.iload_n 1, 1) := dk_27 (dk_at dksX9_lets_0 11 rfl rfl)
theorem dX9_lets_12 : decode cX9_lets 12 = .ok (.ifCond .eq 8, 3) := dk_153 0 8 (dk_at dksX9_lets_0 12 rfl rfl)
theorem dX9_lets_15 : decode cX9_lets 15 = .ok (.iload 5, 2) := dk_21 5 (dk_at dksX9_lets_0 15 rfl rfl)
theorem dX9_lets_17 : decode cX9_lets 17 = .ok (.ifCond .ne 7, 3) := dk_154 0 7 (dk_at dksX9_lets_0 17 rfl rfl)
theorem dX9_lets_20 : decode cX9_lets 20 = .ok (.iconst 1, 1) := dk_4 (dk_at dksX9_lets_0 20 rfl rfl)
theorem dX9_lets_21 : decode cX9_lets 21 = .ok (.goto 4, 3) := dk_167 0 4 (dk_at dksX9_lets_0 21 rfl rfl)
theorem dX9_lets_24 : decode cX9_lets 24 = .ok (.iconst 0, 1) := dk_3 (dk_at dksX9_lets_1 0 rfl rfl)
theorem dX9_lets_25 : decode cX9_lets 25 = .ok (.ireturn, 1) := dk_172 (dk_at dksX9_lets_1 1 rfl rfl)
theorem dX9_lets_26 : decode cX9_lets 26 = .ok (.aload_n 0, 1) := dk_42 (dk_at dksX9_lets_1 2 rfl rfl)
theorem dX9_lets_27 : decode cX9_lets 27 = .ok (.getfield 33, 3) := dk_180 0 33 (dk_at dksX9_lets_1 3 rfl rfl)
theorem dX9_lets_30 : decode cX9_lets 30 = .ok (.iconst 0, 1) := dk_3 (dk_at dksX9_lets_1 6 rfl rfl)
theorem dX9_lets_31 : decode cX9_lets 31 = .ok (.iload_n 3, 1) := dk_29 (dk_at dksX9_lets_1 7 rfl rfl)
theorem dX9_lets_32 : decode cX9_lets 32 = .ok (.iastore, 1) := dk_79 (dk_at dksX9_lets_1 8 rfl rfl)
theorem dX9_lets_33 : decode cX9_lets 33 = .ok (.aload_n 0, 1) := dk_42 (dk_at dksX9_lets_1 9 rfl rfl)
theorem dX9_lets_34 : decode cX9_lets 34 = .ok (.getfield 33, 3) := dk_180 0 33 (dk_at dksX9_lets_1 10 rfl rfl)
theorem dX9_lets_37 : decode cX9_lets 37 = .ok (.iconst 1, 1) := dk_4 (dk_at dksX9_lets_1 13 rfl rfl)
theorem dX9_lets_38 : decode cX9_lets 38 = .ok (.iload 4, 2) := dk_21 4 (dk_at dksX9_lets_1 14 rfl rfl)
theorem dX9_lets_40 : decode cX9_lets 40 = .ok (.iastore, 1) := dk_79 (dk_at dksX9_lets_1 16 rfl rfl)
theorem dX9_lets_41 : decode cX9_lets 41 = .ok (.aload_n 0, 1) := dk_42 (dk_at dksX9_lets_1 17 rfl rfl)
theorem dX9_lets_42 : decode cX9_lets 42 = .ok (.getfield 33, 3) := dk_180 0 33 (dk_at dksX9_lets_1 18 rfl rfl)
theorem dX9_lets_45 : decode cX9_lets 45 = .ok (.iconst 2, 1) := dk_5 (dk_at dksX9_lets_1 21 rfl rfl)
theorem dX9_lets_46 : decode cX9_lets 46 = .ok (.iload_n 2, 1) := dk_28 (dk_at dksX9_lets_1 22 rfl rfl)
theorem dX9_lets_47 : decode cX9_lets 47 = .ok (.iastore, 1) := dk_79 (dk_at dksX9_lets_1 23 rfl rfl)
theorem dX9_lets_48 : decode cX9_lets 48 = .ok (.aload_n 0, 1) := dk_42 (dk_at dksX9_lets_2 0 rfl rfl)
theorem dX9_lets_49 : decode cX9_lets 49 = .ok (.getfield 33, 3) := dk_180 0 33 (dk_at dksX9_lets_2 1 rfl rfl)
theorem dX9_lets_52 : decode cX9_lets 52 = .ok (.iconst 3, 1) := dk_6 (dk_at dksX9_lets_2 4 rfl rfl)
theorem dX9_lets_53 : decode cX9_lets 53 = .ok (.aload_n 0, 1) := dk_42 (dk_at dksX9_lets_2 5 rfl rfl)
theorem dX9_lets_54 : decode cX9_lets 54 = .ok (.getfield 13, 3) := dk_180 0 13 (dk_at dksX9_lets_2 6 rfl rfl)
theorem dX9_lets_57 : decode cX9_lets 57 = .ok (.bipush 11, 2) := dk_16 11 (dk_at dksX9_lets_2 9 rfl rfl)
theorem dX9_lets_59 : decode cX9_lets 59 = .ok (.iload_n 2, 1) := dk_28 (dk_at dksX9_lets_2 11 rfl rfl)
theorem dX9_lets_60 : decode cX9_lets 60 = .ok (.iadd, 1) := dk_96 (dk_at dksX9_lets_2 12 rfl rfl)
theorem dX9_lets_61 : decode cX9_lets 61 = .ok (.iaload, 1) := dk_46 (dk_at dksX9_lets_2 13 rfl rfl)
theorem dX9_lets_62 : decode cX9_lets 62 = .ok (.iastore, 1) := dk_79 (dk_at dksX9_lets_2 14 rfl rfl)
theorem dX9_lets_63 : decode cX9_lets 63 = .ok (.aload_n 0, 1) := dk_42 (dk_at dksX9_lets_2 15 rfl rfl)
theorem dX9_lets_64 : decode cX9_lets 64 = .ok (.getfield 33, 3) := dk_180 0 33 (dk_at dksX9_lets_2 16 rfl rfl)
theorem dX9_lets_67 : decode cX9_lets 67 = .ok (.iconst 4, 1) := dk_7 (dk_at dksX9_lets_2 19 rfl rfl)
theorem dX9_lets_68 : decode cX9_lets 68 = .ok (.iload 5, 2) := dk_21 5 (dk_at dksX9_lets_2 20 rfl rfl)
theorem dX9_lets_70 : decode cX9_lets 70 = .ok (.iastore, 1) := dk_79 (dk_at dksX9_lets_2 22 rfl rfl)
theorem dX9_lets_71 : decode cX9_lets 71 = .ok (.aload_n 0, 1) := dk_42 (dk_at dksX9_lets_2 23 rfl rfl)
theorem dX9_lets_72 : decode cX9_lets 72 = .ok (.getfield 33, 3) := dk_180 0 33 (dk_at dksX9_lets_3 0 rfl rfl)
theorem dX9_lets_75 : decode cX9_lets 75 = .ok (.iconst 5, 1) := dk_8 (dk_at dksX9_lets_3 3 rfl rfl)
theorem dX9_lets_76 : decode cX9_lets 76 = .ok (.iload 6, 2) := dk_21 6 (dk_at dksX9_lets_3 4 rfl rfl)
theorem dX9_lets_78 : decode cX9_lets 78 = .ok (.iastore, 1) := dk_79 (dk_at dksX9_lets_3 6 rfl rfl)
theorem dX9_lets_79 : decode cX9_lets 79 = .ok (.iconst 0, 1) := dk_3 (dk_at dksX9_lets_3 7 rfl rfl)
theorem dX9_lets_80 : decode cX9_lets 80 = .ok (.istore 7, 2) := dk_54 7 (dk_at dksX9_lets_3 8 rfl rfl)
theorem dX9_lets_82 : decode cX9_lets 82 = .ok (.iconst 0, 1) := dk_3 (dk_at dksX9_lets_3 10 rfl rfl)
theorem dX9_lets_83 : decode cX9_lets 83 = .ok (.istore 8, 2) := dk_54 8 (dk_at dksX9_lets_3 11 rfl rfl)
theorem dX9_lets_85 : decode cX9_lets 85 = .ok (.iload 8, 2) := dk_21 8 (dk_at dksX9_lets_3 13 rfl rfl)
theorem dX9_lets_87 : decode cX9_lets 87 = .ok (.aload_n 0, 1) := dk_42 (dk_at dksX9_lets_3 15 rfl rfl)
theorem dX9_lets_88 : decode cX9_lets 88 = .ok (.getfield 13, 3) := dk_180 0 13 (dk_at dksX9_lets_3 16 rfl rfl)
theorem dX9_lets_91 : decode cX9_lets 91 = .ok (.bipush 9, 2) := dk_16 9 (dk_at dksX9_lets_3 19 rfl rfl)
theorem dX9_lets_93 : decode cX9_lets 93 = .ok (.iload_n 1, 1) := dk_27 (dk_at dksX9_lets_3 21 rfl rfl)
theorem dX9_lets_94 : decode cX9_lets 94 = .ok (.iadd, 1) := dk_96 (dk_at dksX9_lets_3 22 rfl rfl)
theorem dX9_lets_95 : decode cX9_lets 95 = .ok (.iaload, 1) := dk_46 (dk_at dksX9_lets_3 23 rfl rfl)
theorem dX9_lets_96 : decode cX9_lets 96 = .ok (.if_icmp .ge 141, 3) := dk_162 0 141 (dk_at dksX9_lets_4 0 rfl rfl)
theorem dX9_lets_99 : decode cX9_lets 99 = .ok (.aload_n 0, 1) := dk_42 (dk_at dksX9_lets_4 3 rfl rfl)
theorem dX9_lets_100 : decode cX9_lets 100 = .ok (.getfield 13, 3) := dk_180 0 13 (dk_at dksX9_lets_4 4 rfl rfl)
theorem dX9_lets_103 : decode cX9_lets 103 = .ok (.sipush 237, 3) := dk_17 0 237 (dk_at dksX9_lets_4 7 rfl rfl)
theorem dX9_lets_106 : decode cX9_lets 106 = .ok (.aload_n 0, 1) := dk_42 (dk_at dksX9_lets_4 10 rfl rfl)
theorem dX9_lets_107 : decode cX9_lets 107 = .ok (.getfield 13, 3) := dk_180 0 13 (dk_at dksX9_lets_4 11 rfl rfl)
theorem dX9_lets_110 : decode cX9_lets 110 = .ok (.bipush 7, 2) := dk_16 7 (dk_at dksX9_lets_4 14 rfl rfl)
theorem dX9_lets_112 : decode cX9_lets 112 = .ok (.iload_n 1, 1) := dk_27 (dk_at dksX9_lets_4 16 rfl rfl)
theorem dX9_lets_113 : decode cX9_lets 113 = .ok (.iadd, 1) := dk_96 (dk_at dksX9_lets_4 17 rfl rfl)
theorem dX9_lets_114 : decode cX9_lets 114 = .ok (.iaload, 1) := dk_46 (dk_at dksX9_lets_4 18 rfl rfl)
theorem dX9_lets_115 : decode cX9_lets 115 = .ok (.iadd, 1) := dk_96 (dk_at dksX9_lets_4 19 rfl rfl)
theorem dX9_lets_116 : decode cX9_lets 116 = .ok (.iload 8, 2) := dk_21 8 (dk_at dksX9_lets_4 20 rfl rfl)
theorem dX9_lets_118 : decode cX9_lets 118 = .ok (.iadd, 1) := dk_96 (dk_at dksX9_lets_4 22 rfl rfl)
theorem dX9_lets_119 : decode cX9_lets 119 = .ok (.iaload, 1) := dk_46 (dk_at dksX9_lets_4 23 rfl rfl)
theorem dX9_lets_120 : decode cX9_lets 120 = .ok (.istore 9, 2) := dk_54 9 (dk_at dksX9_lets_5 0 rfl rfl)
theorem dX9_lets_122 : decode cX9_lets 122 = .ok (.iload 9, 2) := dk_21 9 (dk_at dksX9_lets_5 2 rfl rfl)
theorem dX9_lets_124 : decode cX9_lets 124 = .ok (.sipush 3000, 3) := dk_17 11 184 (dk_at dksX9_lets_5 4 rfl rfl)
theorem dX9_lets_127 : decode cX9_lets 127 = .ok (.if_icmp .ge 40, 3) := dk_162 0 40 (dk_at dksX9_lets_5 7 rfl rfl)
theorem dX9_lets_130 : decode cX9_lets 130 = .ok (.aload_n 0, 1) := dk_42 (dk_at dksX9_lets_5 10 rfl rfl)
theorem dX9_lets_131 : decode cX9_lets 131 = .ok (.getfield 30, 3) := dk_180 0 30 (dk_at dksX9_lets_5 11 rfl rfl)
theorem dX9_lets_134 : decode cX9_lets 134 = .ok (.iload 7, 2) := dk_21 7 (dk_at dksX9_lets_5 14 rfl rfl)
theorem dX9_lets_136 : decode cX9_lets 136 = .ok (.iload 9, 2) := dk_21 9 (dk_at dksX9_lets_5 16 rfl rfl)
theorem dX9_lets_138 : decode cX9_lets 138 = .ok (.sipush 1000, 3) := dk_17 3 232 (dk_at dksX9_lets_5 18 rfl rfl)
theorem dX9_lets_141 : decode cX9_lets 141 = .ok (.if_icmp .ge 8, 3) := dk_162 0 8 (dk_at dksX9_lets_5 21 rfl rfl)
theorem dX9_lets_144 : decode cX9_lets 144 = .ok (.iload 9, 2) := dk_21 9 (dk_at dksX9_lets_6 0 rfl rfl)
theorem dX9_lets_146 : decode cX9_lets 146 = .ok (.goto 14, 3) := dk_167 0 14 (dk_at dksX9_lets_6 2 rfl rfl)
theorem dX9_lets_149 : decode cX9_lets 149 = .ok (.aload_n 0, 1) := dk_42 (dk_at dksX9_lets_6 5 rfl rfl)
theorem dX9_lets_150 : decode cX9_lets 150 = .ok (.getfield 33, 3) := dk_180 0 33 (dk_at dksX9_lets_6 6 rfl rfl)
theorem dX9_lets_153 : decode cX9_lets 153 = .ok (.iload 9, 2) := dk_21 9 (dk_at dksX9_lets_6 9 rfl rfl)
theorem dX9_lets_155 : decode cX9_lets 155 = .ok (.sipush 1000, 3) := dk_17 3 232 (dk_at dksX9_lets_6 11 rfl rfl)
theorem dX9_lets_158 : decode cX9_lets 158 = .ok (.isub, 1) := dk_100 (dk_at dksX9_lets_6 14 rfl rfl)
theorem dX9_lets_159 : decode cX9_lets 159 = .ok (.iaload, 1) := dk_46 (dk_at dksX9_lets_6 15 rfl rfl)
theorem dX9_lets_160 : decode cX9_lets 160 = .ok (.iastore, 1) := dk_79 (dk_at dksX9_lets_6 16 rfl rfl)
theorem dX9_lets_161 : decode cX9_lets 161 = .ok (.iinc 7 1, 3) := dk_132 7 1 (dk_at dksX9_lets_6 17 rfl rfl)
theorem dX9_lets_164 : decode cX9_lets 164 = .ok (.goto 67, 3) := dk_167 0 67 (dk_at dksX9_lets_6 20 rfl rfl)
theorem dX9_lets_167 : decode cX9_lets 167 = .ok (.iload 9, 2) := dk_21 9 (dk_at dksX9_lets_7 0 rfl rfl)
theorem dX9_lets_169 : decode cX9_lets 169 = .ok (.sipush 3006, 3) := dk_17 11 190 (dk_at dksX9_lets_7 2 rfl rfl)
theorem dX9_lets_172 : decode cX9_lets 172 = .ok (.if_icmp .ne 26, 3) := dk_160 0 26 (dk_at dksX9_lets_7 5 rfl rfl)
theorem dX9_lets_175 : decode cX9_lets 175 = .ok (.aload_n 0, 1) := dk_42 (dk_at dksX9_lets_7 8 rfl rfl)
theorem dX9_lets_176 : decode cX9_lets 176 = .ok (.getfield 30, 3) := dk_180 0 30 (dk_at dksX9_lets_7 9 rfl rfl)
theorem dX9_lets_179 : decode cX9_lets 179 = .ok (.iload 7, 2) := dk_21 7 (dk_at dksX9_lets_7 12 rfl rfl)
theorem dX9_lets_181 : decode cX9_lets 181 = .ok (.iconst 1, 1) := dk_4 (dk_at dksX9_lets_7 14 rfl rfl)
theorem dX9_lets_182 : decode cX9_lets 182 = .ok (.isub, 1) := dk_100 (dk_at dksX9_lets_7 15 rfl rfl)
theorem dX9_lets_183 : decode cX9_lets 183 = .ok (.iconst 1, 1) := dk_4 (dk_at dksX9_lets_7 16 rfl rfl)
theorem dX9_lets_184 : decode cX9_lets 184 = .ok (.aload_n 0, 1) := dk_42 (dk_at dksX9_lets_7 17 rfl rfl)
theorem dX9_lets_185 : decode cX9_lets 185 = .ok (.getfield 30, 3) := dk_180 0 30 (dk_at dksX9_lets_7 18 rfl rfl)
theorem dX9_lets_188 : decode cX9_lets 188 = .ok (.iload 7, 2) := dk_21 7 (dk_at dksX9_lets_7 21 rfl rfl)
theorem dX9_lets_190 : decode cX9_lets 190 = .ok (.iconst 1, 1) := dk_4 (dk_at dksX9_lets_7 23 rfl rfl)
theorem dX9_lets_191 : decode cX9_lets 191 = .ok (.isub, 1) := dk_100 (dk_at dksX9_lets_8 0 rfl rfl)
theorem dX9_lets_192 : decode cX9_lets 192 = .ok (.iaload, 1) := dk_46 (dk_at dksX9_lets_8 1 rfl rfl)
theorem dX9_lets_193 : decode cX9_lets 193 = .ok (.isub, 1) := dk_100 (dk_at dksX9_lets_8 2 rfl rfl)
theorem dX9_lets_194 : decode cX9_lets 194 = .ok (.iastore, 1) := dk_79 (dk_at dksX9_lets_8 3 rfl rfl)
theorem dX9_lets_195 : decode cX9_lets 195 = .ok (.goto 36, 3) := dk_167 0 36 (dk_at dksX9_lets_8 4 rfl rfl)
theorem dX9_lets_198 : decode cX9_lets 198 = .ok (.iinc 7 (-1), 3) := dk_132 7 255 (dk_at dksX9_lets_8 7 rfl rfl)
theorem dX9_lets_201 : decode cX9_lets 201 = .ok (.aload_n 0, 1) := dk_42 (dk_at dksX9_lets_8 10 rfl rfl)
theorem dX9_lets_202 : decode cX9_lets 202 = .ok (.getfield 30, 3) := dk_180 0 30 (dk_at dksX9_lets_8 11 rfl rfl)
theorem dX9_lets_205 : decode cX9_lets 205 = .ok (.iload 7, 2) := dk_21 7 (dk_at dksX9_lets_8 14 rfl rfl)
theorem dX9_lets_207 : decode cX9_lets 207 = .ok (.iconst 1, 1) := dk_4 (dk_at dksX9_lets_8 16 rfl rfl)
theorem dX9_lets_208 : decode cX9_lets 208 = .ok (.isub, 1) := dk_100 (dk_at dksX9_lets_8 17 rfl rfl)
theorem dX9_lets_209 : decode cX9_lets 209 = .ok (.iload 9, 2) := dk_21 9 (dk_at dksX9_lets_8 18 rfl rfl)
theorem dX9_lets_211 : decode cX9_lets 211 = .ok (.aload_n 0, 1) := dk_42 (dk_at dksX9_lets_8 20 rfl rfl)
theorem dX9_lets_212 : decode cX9_lets 212 = .ok (.getfield 30, 3) := dk_180 0 30 (dk_at dksX9_lets_8 21 rfl rfl)
theorem dX9_lets_215 : decode cX9_lets 215 = .ok (.iload 7, 2) := dk_21 7 (dk_at dksX9_lets_9 0 rfl rfl)
theorem dX9_lets_217 : decode cX9_lets 217 = .ok (.iconst 1, 1) := dk_4 (dk_at dksX9_lets_9 2 rfl rfl)
theorem dX9_lets_218 : decode cX9_lets 218 = .ok (.isub, 1) := dk_100 (dk_at dksX9_lets_9 3 rfl rfl)
theorem dX9_lets_219 : decode cX9_lets 219 = .ok (.iaload, 1) := dk_46 (dk_at dksX9_lets_9 4 rfl rfl)
theorem dX9_lets_220 : decode cX9_lets 220 = .ok (.aload_n 0, 1) := dk_42 (dk_at dksX9_lets_9 5 rfl rfl)
theorem dX9_lets_221 : decode cX9_lets 221 = .ok (.getfield 30, 3) := dk_180 0 30 (dk_at dksX9_lets_9 6 rfl rfl)
theorem dX9_lets_224 : decode cX9_lets 224 = .ok (.iload 7, 2) := dk_21 7 (dk_at dksX9_lets_9 9 rfl rfl)
theorem dX9_lets_226 : decode cX9_lets 226 = .ok (.iaload, 1) := dk_46 (dk_at dksX9_lets_9 11 rfl rfl)
theorem dX9_lets_227 : decode cX9_lets 227 = .ok (.invokestatic 231, 3) := dk_184 0 231 (dk_at dksX9_lets_9 12 rfl rfl)
theorem dX9_lets_230 : decode cX9_lets 230 = .ok (.iastore, 1) := dk_79 (dk_at dksX9_lets_9 15 rfl rfl)
theorem dX9_lets_231 : decode cX9_lets 231 = .ok (.iinc 8 1, 3) := dk_132 8 1 (dk_at dksX9_lets_9 16 rfl rfl)
theorem dX9_lets_234 : decode cX9_lets 234 = .ok (.goto (-149), 3) := dk_167 255 107 (dk_at dksX9_lets_9 19 rfl rfl)
theorem dX9_lets_237 : decode cX9_lets 237 = .ok (.aload_n 0, 1) := dk_42 (dk_at dksX9_lets_9 22 rfl rfl)
theorem dX9_lets_238 : decode cX9_lets 238 = .ok (.getfield 30, 3) := dk_180 0 30 (dk_at dksX9_lets_10 0 rfl rfl)
theorem dX9_lets_241 : decode cX9_lets 241 = .ok (.iconst 0, 1) := dk_3 (dk_at dksX9_lets_10 3 rfl rfl)
theorem dX9_lets_242 : decode cX9_lets 242 = .ok (.iaload, 1) := dk_46 (dk_at dksX9_lets_10 4 rfl rfl)
theorem dX9_lets_243 : decode cX9_lets 243 = .ok (.iconst 1, 1) := dk_4 (dk_at dksX9_lets_10 5 rfl rfl)
theorem dX9_lets_244 : decode cX9_lets 244 = .ok (.if_icmp .ne 7, 3) := dk_160 0 7 (dk_at dksX9_lets_10 6 rfl rfl)
theorem dX9_lets_247 : decode cX9_lets 247 = .ok (.iconst 1, 1) := dk_4 (dk_at dksX9_lets_10 9 rfl rfl)
theorem dX9_lets_248 : decode cX9_lets 248 = .ok (.goto 4, 3) := dk_167 0 4 (dk_at dksX9_lets_10 10 rfl rfl)
theorem dX9_lets_251 : decode cX9_lets 251 = .ok (.iconst 0, 1) := dk_3 (dk_at dksX9_lets_10 13 rfl rfl)
theorem dX9_lets_252 : decode cX9_lets 252 = .ok (.ireturn, 1) := dk_172 (dk_at dksX9_lets_10 14 rfl rfl)
def dkwX9_between_6 : List UInt8 := [156, 0, 9, 20, 0, 229, 167, 0, 4, 33, 136, 172]
abbrev dktX9_between_6 : List UInt8 := dkwX9_between_6 ++ []
def dkwX9_between_5 : List UInt8 := [133, 28, 133, 105, 66, 33, 20, 0, 227, 148, 158, 0, 9, 20, 0, 227, 167, 0, 18, 33, 20, 0, 229, 148]
abbrev dktX9_between_5 : List UInt8 := dkwX9_between_5 ++ dktX9_between_6
def dkwX9_between_4 : List UInt8 := [27, 133, 28, 133, 97, 167, 0, 23, 26, 17, 11, 185, 160, 0, 11, 27, 133, 28, 133, 101, 167, 0, 8, 27]
abbrev dktX9_between_4 : List UInt8 := dkwX9_between_4 ++ dktX9_between_5
def dkwX9_between_3 : List UInt8 := [164, 0, 7, 4, 167, 0, 4, 3, 172, 27, 28, 126, 172, 27, 28, 128, 172, 26, 17, 11, 184, 160, 0, 11]
abbrev dktX9_between_3 : List UInt8 := dkwX9_between_3 ++ dktX9_between_4
def dkwX9_between_2 : List UInt8 := [27, 28, 160, 0, 7, 4, 167, 0, 4, 3, 172, 27, 28, 162, 0, 7, 4, 167, 0, 4, 3, 172, 27, 28]
abbrev dktX9_between_2 : List UInt8 := dkwX9_between_2 ++ dktX9_between_3
def dkwX9_between_1 : List UInt8 := [170, 0, 0, 0, 0, 0, 80, 0, 0, 11, 187, 0, 0, 11, 192, 0, 0, 0, 39, 0, 0, 0, 50, 0, 0, 0, 61, 0, 0, 0, 80, 0, 0, 0, 72, 0, 0, 0, 76]
abbrev dktX9_between_1 : List UInt8 := dkwX9_between_1 ++ dktX9_between_2
def dkwX9_between_0 : List UInt8 := [26]
abbrev dktX9_between_0 : List UInt8 := dkwX9_between_0 ++ dktX9_between_1
theorem dksX9_between_0 : cX9_between.data.toList.drop 0 = dktX9_between_0 := by decide +kernel
theorem dksX9_between_1 : cX9_between.data.toList.drop 1 = dktX9_between_1 := dk_seg dksX9_between_0 1 rfl rfl
theorem dksX9_between_2 : cX9_between.data.toList.drop 40 = dktX9_between_2 := dk_seg dksX9_between_1 39 rfl rfl
theorem dksX9_between_3 : cX9_between.data.toList.drop 64 = dktX9_between_3 := dk_seg dksX9_between_2 24 rfl rfl
theorem dksX9_between_4 : cX9_between.data.toList.drop 88 = dktX9_between_4 := dk_seg dksX9_between_3 24 rfl rfl
theorem dksX9_between_5 : cX9_between.data.toList.drop 112 = dktX9_between_5 := dk_seg dksX9_between_4 24 rfl rfl
theorem dksX9_between_6 : cX9_between.data.toList.drop 136 = dktX9_between_6 := dk_seg dksX9_between_5 24 rfl rfl
theorem dX9_between_0 : decode cX9_between 0 = .ok (.iload_n 0, 1) := dk_26 (dk_at dksX9_between_0 0 rfl rfl)
theorem dX9_between_1 : decode cX9_between 1 = .ok (.tableswitch 80 3003 3008 #[39, 50, 61, 80, 72, 76], 39) := by decide +kernel
theorem dX9_between_40 : decode cX9_between 40 = .ok (.iload_n 1, 1) := dk_27 (dk_at dksX9_between_2 0 rfl rfl)
theorem dX9_between_41 : decode cX9_between 41 = .ok (.iload_n 2, 1) := dk_28 (dk_at dksX9_between_2 1 rfl rfl)
theorem dX9_between_42 : decode cX9_between 42 = .ok (.if_icmp .ne 7, 3) := dk_160 0 7 (dk_at dksX9_between_2 2 rfl rfl)
theorem dX9_between_45 : decode cX9_between 45 = .ok (.iconst 1, 1) := dk_4 (dk_at dksX9_between_2 5 rfl rfl)
theorem dX9_between_46 : decode cX9_between 46 = .ok (.goto 4, 3) := dk_167 0 4 (dk_at dksX9_between_2 6 rfl rfl)
theorem dX9_between_49 : decode cX9_between 49 = .ok (.iconst 0, 1) := dk_3 (dk_at dksX9_between_2 9 rfl rfl)
theorem dX9_between_50 : decode cX9_between 50 = .ok (.ireturn, 1) := dk_172 (dk_at dksX9_between_2 10 rfl rfl)
theorem dX9_between_51 : decode cX9_between 51 = .ok (.iload_n 1, 1) := dk_27 (dk_at dksX9_between_2 11 rfl rfl)
theorem dX9_between_52 : decode cX9_between 52 = .ok (.iload_n 2, 1) := dk_28 (dk_at dksX9_between_2 12 rfl rfl)
theorem dX9_between_53 : decode cX9_between 53 = .ok (.if_icmp .ge 7, 3) := dk_162 0 7 (dk_at dksX9_between_2 13 rfl rfl)
theorem dX9_between_56 : decode cX9_between 56 = .ok (.iconst 1, 1) := dk_4 (dk_at dksX9_between_2 16 rfl rfl)
theorem dX9_between_57 : decode cX9_between 57 = .ok (.goto 4, 3) := dk_167 0 4 (dk_at dksX9_between_2 17 rfl rfl)
theorem dX9_between_60 : decode cX9_between 60 = .ok (.iconst 0, 1) := dk_3 (dk_at dksX9_between_2 20 rfl rfl)
theorem dX9_between_61 : decode cX9_between 61 = .ok (.ireturn, 1) := dk_172 (dk_at dksX9_between_2 21 rfl rfl)
theorem dX9_between_62 : decode cX9_between 62 = .ok (.iload_n 1, 1) := dk_27 (dk_at dksX9_between_2 22 rfl rfl)
theorem dX9_between_63 : decode cX9_between 63 = .ok (.iload_n 2, 1) := dk_28 (dk_at dksX9_between_2 23 rfl rfl)
theorem dX9_between_64 : decode cX9_between 64 = .ok (.if_icmp .le 7, 3) := dk_164 0 7 (dk_at dksX9_between_3 0 rfl rfl)
theorem dX9_between_67 : decode cX9_between 67 = .ok (.iconst 1, 1) := dk_4 (dk_at dksX9_between_3 3 rfl rfl)
theorem dX9_between_68 : decode cX9_between 68 = .ok (.goto 4, 3) := dk_167 0 4 (dk_at dksX9_between_3 4 rfl rfl)
theorem dX9_between_71 : decode cX9_between 71 = .ok (.iconst 0, 1) := dk_3 (dk_at dksX9_between_3 7 rfl rfl)
theorem dX9_between_72 : decode cX9_between 72 = .ok (.ireturn, 1) := dk_172 (dk_at dksX9_between_3 8 rfl rfl)
theorem dX9_between_73 : decode cX9_between 73 = .ok (.iload_n 1, 1) := dk_27 (dk_at dksX9_between_3 9 rfl rfl)
theorem dX9_between_74 : decode cX9_between 74 = .ok (.iload_n 2, 1) := dk_28 (dk_at dksX9_between_3 10 rfl rfl)
theorem dX9_between_75 : decode cX9_between 75 = .ok (.iand, 1) := dk_126 (dk_at dksX9_between_3 11 rfl rfl)
theorem dX9_between_76 : decode cX9_between 76 = .ok (.ireturn, 1) := dk_172 (dk_at dksX9_between_3 12 rfl rfl)
theorem dX9_between_77 : decode cX9_between 77 = .ok (.iload_n 1, 1) := dk_27 (dk_at dksX9_between_3 13 rfl rfl)
theorem dX9_between_78 : decode cX9_between 78 = .ok (.iload_n 2, 1) := dk_28 (dk_at dksX9_between_3 14 rfl rfl)
theorem dX9_between_79 : decode cX9_between 79 = .ok (.ior, 1) := dk_128 (dk_at dksX9_between_3 15 rfl rfl)
theorem dX9_between_80 : decode cX9_between 80 = .ok (.ireturn, 1) := dk_172 (dk_at dksX9_between_3 16 rfl rfl)
theorem dX9_between_81 : decode cX9_between 81 = .ok (.iload_n 0, 1) := dk_26 (dk_at dksX9_between_3 17 rfl rfl)
theorem dX9_between_82 : decode cX9_between 82 = .ok (.sipush 3000, 3) := dk_17 11 184 (dk_at dksX9_between_3 18 rfl rfl)
theorem dX9_between_85 : decode cX9_between 85 = .ok (.if_icmp .ne 11, 3) := dk_160 0 11 (dk_at dksX9_between_3 21 rfl rfl)
theorem dX9_between_88 : decode cX9_between 88 = .ok (.iload_n 1, 1) := dk_27 (dk_at dksX9_between_4 0 rfl rfl)
theorem dX9_between_89 : decode cX9_between 89 = .ok (.i2l, 1) := dk_133 (dk_at dksX9_between_4 1 rfl rfl)
theorem dX9_between_90 : decode cX9_between 90 = .ok (.iload_n 2, 1) := dk_28 (dk_at dksX9_between_4 2 rfl rfl)
theorem dX9_between_91 : decode cX9_between 91 = .ok (.i2l, 1) := dk_133 (dk_at dksX9_between_4 3 rfl rfl)
theorem dX9_between_92 : decode cX9_between 92 = .ok (.ladd, 1) := dk_97 (dk_at dksX9_between_4 4 rfl rfl)
theorem dX9_between_93 : decode cX9_between 93 = .ok (.goto 23, 3) := dk_167 0 23 (dk_at dksX9_between_4 5 rfl rfl)
theorem dX9_between_96 : decode cX9_between 96 = .ok (.iload_n 0, 1) := dk_26 (dk_at dksX9_between_4 8 rfl rfl)
theorem dX9_between_97 : decode cX9_between 97 = .ok (.sipush 3001, 3) := dk_17 11 185 (dk_at dksX9_between_4 9 rfl rfl)
theorem dX9_between_100 : decode cX9_between 100 = .ok (.if_icmp .ne 11, 3) := dk_160 0 11 (dk_at dksX9_between_4 12 rfl rfl)
theorem dX9_between_103 : decode cX9_between 103 = .ok (.iload_n 1, 1) := dk_27 (dk_at dksX9_between_4 15 rfl rfl)
theorem dX9_between_104 : decode cX9_between 104 = .ok (.i2l, 1) := dk_133 (dk_at dksX9_between_4 16 rfl rfl)
theorem dX9_between_105 : decode cX9_between 105 = .ok (.iload_n 2, 1) := dk_28 (dk_at dksX9_between_4 17 rfl rfl)
theorem dX9_between_106 : decode cX9_between 106 = .ok (.i2l, 1) := dk_133 (dk_at dksX9_between_4 18 rfl rfl)
theorem dX9_between_107 : decode cX9_between 107 = .ok (.lsub, 1) := dk_101 (dk_at dksX9_between_4 19 rfl rfl)
theorem dX9_between_108 : decode cX9_between 108 = .ok (.goto 8, 3) := dk_167 0 8 (dk_at dksX9_between_4 20 rfl rfl)
theorem dX9_between_111 : decode cX9_between 111 = .ok (.iload_n 1, 1) := dk_27 (dk_at dksX9_between_4 23 rfl rfl)
theorem dX9_between_112 : decode cX9_between 112 = .ok (.i2l, 1) := dk_133 (dk_at dksX9_between_5 0 rfl rfl)
theorem dX9_between_113 : decode cX9_between 113 = .ok (.iload_n 2, 1) := dk_28 (dk_at dksX9_between_5 1 rfl rfl)
theorem dX9_between_114 : decode cX9_between 114 = .ok (.i2l, 1) := dk_133 (dk_at dksX9_between_5 2 rfl rfl)
theorem dX9_between_115 : decode cX9_between 115 = .ok (.lmul, 1) := dk_105 (dk_at dksX9_between_5 3 rfl rfl)
theorem dX9_between_116 : decode cX9_between 116 = .ok (.lstore_n 3, 1) := dk_66 (dk_at dksX9_between_5 4 rfl rfl)
theorem dX9_between_117 : decode cX9_between 117 = .ok (.lload_n 3, 1) := dk_33 (dk_at dksX9_between_5 5 rfl rfl)
theorem dX9_between_118 : decode cX9_between 118 = .ok (.ldc2_w 227, 3) := dk_20 0 227 (dk_at dksX9_between_5 6 rfl rfl)
theorem dX9_between_121 : decode cX9_between 121 = .ok (.lcmp, 1) := dk_148 (dk_at dksX9_between_5 9 rfl rfl)
theorem dX9_between_122 : decode cX9_between 122 = .ok (.ifCond .le 9, 3) := dk_158 0 9 (dk_at dksX9_between_5 10 rfl rfl)
theorem dX9_between_125 : decode cX9_between 125 = .ok (.ldc2_w 227, 3) := dk_20 0 227 (dk_at dksX9_between_5 13 rfl rfl)
theorem dX9_between_128 : decode cX9_between 128 = .ok (.goto 18, 3) := dk_167 0 18 (dk_at dksX9_between_5 16 rfl rfl)
theorem dX9_between_131 : decode cX9_between 131 = .ok (.lload_n 3, 1) := dk_33 (dk_at dksX9_between_5 19 rfl rfl)
theorem dX9_between_132 : decode cX9_between 132 = .ok (.ldc2_w 229, 3) := dk_20 0 229 (dk_at dksX9_between_5 20 rfl rfl)
theorem dX9_between_135 : decode cX9_between 135 = .ok (.lcmp, 1) := dk_148 (dk_at dksX9_between_5 23 rfl rfl)
theorem dX9_between_136 : decode cX9_between 136 = .ok (.ifCond .ge 9, 3) := dk_156 0 9 (dk_at dksX9_between_6 0 rfl rfl)
theorem dX9_between_139 : decode cX9_between 139 = .ok (.ldc2_w 229, 3) := dk_20 0 229 (dk_at dksX9_between_6 3 rfl rfl)
theorem dX9_between_142 : decode cX9_between 142 = .ok (.goto 4, 3) := dk_167 0 4 (dk_at dksX9_between_6 6 rfl rfl)
theorem dX9_between_145 : decode cX9_between 145 = .ok (.lload_n 3, 1) := dk_33 (dk_at dksX9_between_6 9 rfl rfl)
theorem dX9_between_146 : decode cX9_between 146 = .ok (.l2i, 1) := dk_136 (dk_at dksX9_between_6 10 rfl rfl)
theorem dX9_between_147 : decode cX9_between 147 = .ok (.ireturn, 1) := dk_172 (dk_at dksX9_between_6 11 rfl rfl)
def dkwX9_act_2 : List UInt8 := [27, 96, 46, 28, 42, 42, 180, 0, 13, 16, 26, 46, 182, 0, 235, 182, 0, 238, 172]
abbrev dktX9_act_2 : List UInt8 := dkwX9_act_2 ++ []
def dkwX9_act_1 : List UInt8 := [182, 1, 12, 42, 180, 0, 13, 16, 40, 27, 96, 28, 79, 42, 182, 1, 15, 42, 42, 180, 0, 13, 16, 35]
abbrev dktX9_act_1 : List UInt8 := dkwX9_act_1 ++ dktX9_act_2
def dkwX9_act_0 : List UInt8 := [42, 3, 181, 0, 1, 42, 27, 133, 28, 133, 182, 1, 8, 62, 29, 153, 0, 8, 16, 246, 29, 100, 172, 42]
abbrev dktX9_act_0 : List UInt8 := dkwX9_act_0 ++ dktX9_act_1
theorem dksX9_act_0 : cX9_act.data.toList.drop 0 = dktX9_act_0 := by decide +kernel
theorem dksX9_act_1 : cX9_act.data.toList.drop 24 = dktX9_act_1 := dk_seg dksX9_act_0 24 rfl rfl
theorem dksX9_act_2 : cX9_act.data.toList.drop 48 = dktX9_act_2 := dk_seg dksX9_act_1 24 rfl rfl
theorem dX9_act_0 : decode cX9_act 0 = .ok (.aload_n 0, 1) := dk_42 (dk_at dksX9_act_0 0 rfl rfl)
theorem dX9_act_1 : decode cX9_act 1 = .ok (.iconst 0, 1) := dk_3 (dk_at dksX9_act_0 1 rfl rfl)
theorem dX9_act_2 : decode cX9_act 2 = .ok (.putfield 1, 3) := dk_181 0 1 (dk_at dksX9_act_0 2 rfl rfl)
theorem dX9_act_5 : decode cX9_act 5 = .ok (.aload_n 0, 1) := dk_42 (dk_at dksX9_act_0 5 rfl rfl)
theorem dX9_act_6 : decode cX9_act 6 = .ok (.iload_n 1, 1) := dk_27 (dk_at dksX9_act_0 6 rfl rfl)
theorem dX9_act_7 : decode cX9_act 7 = .ok (.i2l, 1) := dk_133 (dk_at dksX9_act_0 7 rfl rfl)
theorem dX9_act_8 : decode cX9_act 8 = .ok (.iload_n 2, 1) := dk_28 (dk_at dksX9_act_0 8 rfl rfl)
theorem dX9_act_9 : decode cX9_act 9 = .ok (.i2l, 1) := dk_133 (dk_at dksX9_act_0 9 rfl rfl)
theorem dX9_act_10 : decode cX9_act 10 = .ok (.invokevirtual 264, 3) := dk_182 1 8 (dk_at dksX9_act_0 10 rfl rfl)
theorem dX9_act_13 : decode cX9_act 13 = .ok (.istore_n 3, 1) := dk_62 (dk_at dksX9_act_0 13 rfl rfl)
theorem dX9_act_14 : decode cX9_act 14 = .ok (.iload_n 3, 1) := dk_29 (dk_at dksX9_act_0 14 rfl rfl)
theorem dX9_act_15 : decode cX9_act 15 = .ok (.ifCond .eq 8, 3) := dk_153 0 8 (dk_at dksX9_act_0 15 rfl rfl)
theorem dX9_act_18 : decode cX9_act 18 = .ok (.bipush (-10), 2) := dk_16 246 (dk_at dksX9_act_0 18 rfl rfl)
theorem dX9_act_20 : decode cX9_act 20 = .ok (.iload_n 3, 1) := dk_29 (dk_at dksX9_act_0 20 rfl rfl)
theorem dX9_act_21 : decode cX9_act 21 = .ok (.isub, 1) := dk_100 (dk_at dksX9_act_0 21 rfl rfl)
theorem dX9_act_22 : decode cX9_act 22 = .ok (.ireturn, 1) := dk_172 (dk_at dksX9_act_0 22 rfl rfl)
theorem dX9_act_23 : decode cX9_act 23 = .ok (.aload_n 0, 1) := dk_42 (dk_at dksX9_act_0 23 rfl rfl)
theorem dX9_act_24 : decode cX9_act 24 = .ok (.invokevirtual 268, 3) := dk_182 1 12 (dk_at dksX9_act_1 0 rfl rfl)
theorem dX9_act_27 : decode cX9_act 27 = .ok (.aload_n 0, 1) := dk_42 (dk_at dksX9_act_1 3 rfl rfl)
theorem dX9_act_28 : decode cX9_act 28 = .ok (.getfield 13, 3) := dk_180 0 13 (dk_at dksX9_act_1 4 rfl rfl)
theorem dX9_act_31 : decode cX9_act 31 = .ok (.bipush 40, 2) := dk_16 40 (dk_at dksX9_act_1 7 rfl rfl)
theorem dX9_act_33 : decode cX9_act 33 = .ok (.iload_n 1, 1) := dk_27 (dk_at dksX9_act_1 9 rfl rfl)
theorem dX9_act_34 : decode cX9_act 34 = .ok (.iadd, 1) := dk_96 (dk_at dksX9_act_1 10 rfl rfl)
theorem dX9_act_35 : decode cX9_act 35 = .ok (.iload_n 2, 1) := dk_28 (dk_at dksX9_act_1 11 rfl rfl)
theorem dX9_act_36 : decode cX9_act 36 = .ok (.iastore, 1) := dk_79 (dk_at dksX9_act_1 12 rfl rfl)
theorem dX9_act_37 : decode cX9_act 37 = .ok (.aload_n 0, 1) := dk_42 (dk_at dksX9_act_1 13 rfl rfl)
theorem dX9_act_38 : decode cX9_act 38 = .ok (.invokevirtual 271, 3) := dk_182 1 15 (dk_at dksX9_act_1 14 rfl rfl)
theorem dX9_act_41 : decode cX9_act 41 = .ok (.aload_n 0, 1) := dk_42 (dk_at dksX9_act_1 17 rfl rfl)
theorem dX9_act_42 : decode cX9_act 42 = .ok (.aload_n 0, 1) := dk_42 (dk_at dksX9_act_1 18 rfl rfl)
theorem dX9_act_43 : decode cX9_act 43 = .ok (.getfield 13, 3) := dk_180 0 13 (dk_at dksX9_act_1 19 rfl rfl)
theorem dX9_act_46 : decode cX9_act 46 = .ok (.bipush 35, 2) := dk_16 35 (dk_at dksX9_act_1 22 rfl rfl)
theorem dX9_act_48 : decode cX9_act 48 = .ok (.iload_n 1, 1) := dk_27 (dk_at dksX9_act_2 0 rfl rfl)
theorem dX9_act_49 : decode cX9_act 49 = .ok (.iadd, 1) := dk_96 (dk_at dksX9_act_2 1 rfl rfl)
theorem dX9_act_50 : decode cX9_act 50 = .ok (.iaload, 1) := dk_46 (dk_at dksX9_act_2 2 rfl rfl)
theorem dX9_act_51 : decode cX9_act 51 = .ok (.iload_n 2, 1) := dk_28 (dk_at dksX9_act_2 3 rfl rfl)
theorem dX9_act_52 : decode cX9_act 52 = .ok (.aload_n 0, 1) := dk_42 (dk_at dksX9_act_2 4 rfl rfl)
theorem dX9_act_53 : decode cX9_act 53 = .ok (.aload_n 0, 1) := dk_42 (dk_at dksX9_act_2 5 rfl rfl)
theorem dX9_act_54 : decode cX9_act 54 = .ok (.getfield 13, 3) := dk_180 0 13 (dk_at dksX9_act_2 6 rfl rfl)
theorem dX9_act_57 : decode cX9_act 57 = .ok (.bipush 26, 2) := dk_16 26 (dk_at dksX9_act_2 9 rfl rfl)
theorem dX9_act_59 : decode cX9_act 59 = .ok (.iaload, 1) := dk_46 (dk_at dksX9_act_2 11 rfl rfl)
theorem dX9_act_60 : decode cX9_act 60 = .ok (.invokevirtual 235, 3) := dk_182 0 235 (dk_at dksX9_act_2 12 rfl rfl)
theorem dX9_act_63 : decode cX9_act 63 = .ok (.invokevirtual 238, 3) := dk_182 0 238 (dk_at dksX9_act_2 15 rfl rfl)
theorem dX9_act_66 : decode cX9_act 66 = .ok (.ireturn, 1) := dk_172 (dk_at dksX9_act_2 18 rfl rfl)
def dkwX9_keeps_1 : List UInt8 := [132, 1, 1, 167, 255, 232, 177]
abbrev dktX9_keeps_1 : List UInt8 := dkwX9_keeps_1 ++ []
def dkwX9_keeps_0 : List UInt8 := [3, 60, 27, 16, 19, 162, 0, 24, 42, 180, 0, 36, 27, 42, 180, 0, 13, 16, 26, 27, 96, 46, 79]
abbrev dktX9_keeps_0 : List UInt8 := dkwX9_keeps_0 ++ dktX9_keeps_1
theorem dksX9_keeps_0 : cX9_keeps.data.toList.drop 0 = dktX9_keeps_0 := by decide +kernel
theorem dksX9_keeps_1 : cX9_keeps.data.toList.drop 23 = dktX9_keeps_1 := dk_seg dksX9_keeps_0 23 rfl rfl
theorem dX9_keeps_0 : decode cX9_keeps 0 = .ok (.iconst 0, 1) := dk_3 (dk_at dksX9_keeps_0 0 rfl rfl)
theorem dX9_keeps_1 : decode cX9_keeps 1 = .ok (.istore_n 1, 1) := dk_60 (dk_at dksX9_keeps_0 1 rfl rfl)
theorem dX9_keeps_2 : decode cX9_keeps 2 = .ok (.iload_n 1, 1) := dk_27 (dk_at dksX9_keeps_0 2 rfl rfl)
theorem dX9_keeps_3 : decode cX9_keeps 3 = .ok (.bipush 19, 2) := dk_16 19 (dk_at dksX9_keeps_0 3 rfl rfl)
theorem dX9_keeps_5 : decode cX9_keeps 5 = .ok (.if_icmp .ge 24, 3) := dk_162 0 24 (dk_at dksX9_keeps_0 5 rfl rfl)
theorem dX9_keeps_8 : decode cX9_keeps 8 = .ok (.aload_n 0, 1) := dk_42 (dk_at dksX9_keeps_0 8 rfl rfl)
theorem dX9_keeps_9 : decode cX9_keeps 9 = .ok (.getfield 36, 3) := dk_180 0 36 (dk_at dksX9_keeps_0 9 rfl rfl)
theorem dX9_keeps_12 : decode cX9_keeps 12 = .ok (.iload_n 1, 1) := dk_27 (dk_at dksX9_keeps_0 12 rfl rfl)
theorem dX9_keeps_13 : decode cX9_keeps 13 = .ok (.aload_n 0, 1) := dk_42 (dk_at dksX9_keeps_0 13 rfl rfl)
theorem dX9_keeps_14 : decode cX9_keeps 14 = .ok (.getfield 13, 3) := dk_180 0 13 (dk_at dksX9_keeps_0 14 rfl rfl)
theorem dX9_keeps_17 : decode cX9_keeps 17 = .ok (.bipush 26, 2) := dk_16 26 (dk_at dksX9_keeps_0 17 rfl rfl)
theorem dX9_keeps_19 : decode cX9_keeps 19 = .ok (.iload_n 1, 1) := dk_27 (dk_at dksX9_keeps_0 19 rfl rfl)
theorem dX9_keeps_20 : decode cX9_keeps 20 = .ok (.iadd, 1) := dk_96 (dk_at dksX9_keeps_0 20 rfl rfl)
theorem dX9_keeps_21 : decode cX9_keeps 21 = .ok (.iaload, 1) := dk_46 (dk_at dksX9_keeps_0 21 rfl rfl)
theorem dX9_keeps_22 : decode cX9_keeps 22 = .ok (.iastore, 1) := dk_79 (dk_at dksX9_keeps_0 22 rfl rfl)
theorem dX9_keeps_23 : decode cX9_keeps 23 = .ok (.iinc 1 1, 3) := dk_132 1 1 (dk_at dksX9_keeps_1 0 rfl rfl)
theorem dX9_keeps_26 : decode cX9_keeps 26 = .ok (.goto (-24), 3) := dk_167 255 232 (dk_at dksX9_keeps_1 3 rfl rfl)
theorem dX9_keeps_29 : decode cX9_keeps 29 = .ok (.return_, 1) := dk_177 (dk_at dksX9_keeps_1 6 rfl rfl)
def dkwX9_notes_4 : List UInt8 := [167, 255, 221, 42, 180, 0, 13, 16, 45, 92, 46, 4, 96, 79, 177]
abbrev dktX9_notes_4 : List UInt8 := dkwX9_notes_4 ++ []
def dkwX9_notes_3 : List UInt8 := [16, 19, 42, 180, 0, 13, 16, 45, 46, 104, 96, 27, 96, 42, 180, 0, 36, 27, 46, 79, 132, 1, 1]
abbrev dktX9_notes_3 : List UInt8 := dkwX9_notes_3 ++ dktX9_notes_4
def dkwX9_notes_2 : List UInt8 := [180, 0, 13, 16, 45, 92, 46, 4, 100, 79, 3, 60, 27, 16, 19, 162, 0, 35, 42, 180, 0, 13, 16, 46]
abbrev dktX9_notes_2 : List UInt8 := dkwX9_notes_2 ++ dktX9_notes_3
def dkwX9_notes_1 : List UInt8 := [180, 0, 13, 16, 46, 27, 96, 42, 180, 0, 13, 16, 65, 27, 96, 46, 79, 132, 1, 1, 167, 255, 228, 42]
abbrev dktX9_notes_1 : List UInt8 := dkwX9_notes_1 ++ dktX9_notes_2
def dkwX9_notes_0 : List UInt8 := [42, 180, 0, 13, 16, 45, 46, 16, 10, 160, 0, 47, 3, 60, 27, 17, 0, 171, 162, 0, 27, 42]
abbrev dktX9_notes_0 : List UInt8 := dkwX9_notes_0 ++ dktX9_notes_1
theorem dksX9_notes_0 : cX9_notes.data.toList.drop 0 = dktX9_notes_0 := by decide +kernel
theorem dksX9_notes_1 : cX9_notes.data.toList.drop 22 = dktX9_notes_1 := dk_seg dksX9_notes_0 22 rfl rfl
theorem dksX9_notes_2 : cX9_notes.data.toList.drop 46 = dktX9_notes_2 := dk_seg dksX9_notes_1 24 rfl rfl
theorem dksX9_notes_3 : cX9_notes.data.toList.drop 70 = dktX9_notes_3 := dk_seg dksX9_notes_2 24 rfl rfl
theorem dksX9_notes_4 : cX9_notes.data.toList.drop 93 = dktX9_notes_4 := dk_seg dksX9_notes_3 23 rfl rfl
theorem dX9_notes_0 : decode cX9_notes 0 = .ok (.aload_n 0, 1) := dk_42 (dk_at dksX9_notes_0 0 rfl rfl)
theorem dX9_notes_1 : decode cX9_notes 1 = .ok (.getfield 13, 3) := dk_180 0 13 (dk_at dksX9_notes_0 1 rfl rfl)
theorem dX9_notes_4 : decode cX9_notes 4 = .ok (.bipush 45, 2) := dk_16 45 (dk_at dksX9_notes_0 4 rfl rfl)
theorem dX9_notes_6 : decode cX9_notes 6 = .ok (.iaload, 1) := dk_46 (dk_at dksX9_notes_0 6 rfl rfl)
theorem dX9_notes_7 : decode cX9_notes 7 = .ok (.bipush 10, 2) := dk_16 10 (dk_at dksX9_notes_0 7 rfl rfl)
theorem dX9_notes_9 : decode cX9_notes 9 = .ok (.if_icmp .ne 47, 3) := dk_160 0 47 (dk_at dksX9_notes_0 9 rfl rfl)
theorem dX9_notes_12 : decode cX9_notes 12 = .ok (.iconst 0, 1) := dk_3 (dk_at dksX9_notes_0 12 rfl rfl)
theorem dX9_notes_13 : decode cX9_notes 13 = .ok (.istore_n 1, 1) := dk_60 (dk_at dksX9_notes_0 13 rfl rfl)
theorem dX9_notes_14 : decode cX9_notes 14 = .ok (.iload_n 1, 1) := dk_27 (dk_at dksX9_notes_0 14 rfl rfl)
theorem dX9_notes_15 : decode cX9_notes 15 = .ok (.sipush 171, 3) := dk_17 0 171 (dk_at dksX9_notes_0 15 rfl rfl)
theorem dX9_notes_18 : decode cX9_notes 18 = .ok (.if_icmp .ge 27, 3) := dk_162 0 27 (dk_at dksX9_notes_0 18 rfl rfl)
theorem dX9_notes_21 : decode cX9_notes 21 = .ok (.aload_n 0, 1) := dk_42 (dk_at dksX9_notes_0 21 rfl rfl)
theorem dX9_notes_22 : decode cX9_notes 22 = .ok (.getfield 13, 3) := dk_180 0 13 (dk_at dksX9_notes_1 0 rfl rfl)
theorem dX9_notes_25 : decode cX9_notes 25 = .ok (.bipush 46, 2) := dk_16 46 (dk_at dksX9_notes_1 3 rfl rfl)
theorem dX9_notes_27 : decode cX9_notes 27 = .ok (.iload_n 1, 1) := dk_27 (dk_at dksX9_notes_1 5 rfl rfl)
theorem dX9_notes_28 : decode cX9_notes 28 = .ok (.iadd, 1) := dk_96 (dk_at dksX9_notes_1 6 rfl rfl)
theorem dX9_notes_29 : decode cX9_notes 29 = .ok (.aload_n 0, 1) := dk_42 (dk_at dksX9_notes_1 7 rfl rfl)
theorem dX9_notes_30 : decode cX9_notes 30 = .ok (.getfield 13, 3) := dk_180 0 13 (dk_at dksX9_notes_1 8 rfl rfl)
theorem dX9_notes_33 : decode cX9_notes 33 = .ok (.bipush 65, 2) := dk_16 65 (dk_at dksX9_notes_1 11 rfl rfl)
theorem dX9_notes_35 : decode cX9_notes 35 = .ok (.iload_n 1, 1) := dk_27 (dk_at dksX9_notes_1 13 rfl rfl)
theorem dX9_notes_36 : decode cX9_notes 36 = .ok (.iadd, 1) := dk_96 (dk_at dksX9_notes_1 14 rfl rfl)
theorem dX9_notes_37 : decode cX9_notes 37 = .ok (.iaload, 1) := dk_46 (dk_at dksX9_notes_1 15 rfl rfl)
theorem dX9_notes_38 : decode cX9_notes 38 = .ok (.iastore, 1) := dk_79 (dk_at dksX9_notes_1 16 rfl rfl)
theorem dX9_notes_39 : decode cX9_notes 39 = .ok (.iinc 1 1, 3) := dk_132 1 1 (dk_at dksX9_notes_1 17 rfl rfl)
theorem dX9_notes_42 : decode cX9_notes 42 = .ok (.goto (-28), 3) := dk_167 255 228 (dk_at dksX9_notes_1 20 rfl rfl)
theorem dX9_notes_45 : decode cX9_notes 45 = .ok (.aload_n 0, 1) := dk_42 (dk_at dksX9_notes_1 23 rfl rfl)
theorem dX9_notes_46 : decode cX9_notes 46 = .ok (.getfield 13, 3) := dk_180 0 13 (dk_at dksX9_notes_2 0 rfl rfl)
theorem dX9_notes_49 : decode cX9_notes 49 = .ok (.bipush 45, 2) := dk_16 45 (dk_at dksX9_notes_2 3 rfl rfl)
theorem dX9_notes_51 : decode cX9_notes 51 = .ok (.dup2, 1) := dk_92 (dk_at dksX9_notes_2 5 rfl rfl)
theorem dX9_notes_52 : decode cX9_notes 52 = .ok (.iaload, 1) := dk_46 (dk_at dksX9_notes_2 6 rfl rfl)
theorem dX9_notes_53 : decode cX9_notes 53 = .ok (.iconst 1, 1) := dk_4 (dk_at dksX9_notes_2 7 rfl rfl)
theorem dX9_notes_54 : decode cX9_notes 54 = .ok (.isub, 1) := dk_100 (dk_at dksX9_notes_2 8 rfl rfl)
theorem dX9_notes_55 : decode cX9_notes 55 = .ok (.iastore, 1) := dk_79 (dk_at dksX9_notes_2 9 rfl rfl)
theorem dX9_notes_56 : decode cX9_notes 56 = .ok (.iconst 0, 1) := dk_3 (dk_at dksX9_notes_2 10 rfl rfl)
theorem dX9_notes_57 : decode cX9_notes 57 = .ok (.istore_n 1, 1) := dk_60 (dk_at dksX9_notes_2 11 rfl rfl)
theorem dX9_notes_58 : decode cX9_notes 58 = .ok (.iload_n 1, 1) := dk_27 (dk_at dksX9_notes_2 12 rfl rfl)
theorem dX9_notes_59 : decode cX9_notes 59 = .ok (.bipush 19, 2) := dk_16 19 (dk_at dksX9_notes_2 13 rfl rfl)
theorem dX9_notes_61 : decode cX9_notes 61 = .ok (.if_icmp .ge 35, 3) := dk_162 0 35 (dk_at dksX9_notes_2 15 rfl rfl)
theorem dX9_notes_64 : decode cX9_notes 64 = .ok (.aload_n 0, 1) := dk_42 (dk_at dksX9_notes_2 18 rfl rfl)
theorem dX9_notes_65 : decode cX9_notes 65 = .ok (.getfield 13, 3) := dk_180 0 13 (dk_at dksX9_notes_2 19 rfl rfl)
theorem dX9_notes_68 : decode cX9_notes 68 = .ok (.bipush 46, 2) := dk_16 46 (dk_at dksX9_notes_2 22 rfl rfl)
theorem dX9_notes_70 : decode cX9_notes 70 = .ok (.bipush 19, 2) := dk_16 19 (dk_at dksX9_notes_3 0 rfl rfl)
theorem dX9_notes_72 : decode cX9_notes 72 = .ok (.aload_n 0, 1) := dk_42 (dk_at dksX9_notes_3 2 rfl rfl)
theorem dX9_notes_73 : decode cX9_notes 73 = .ok (.getfield 13, 3) := dk_180 0 13 (dk_at dksX9_notes_3 3 rfl rfl)
theorem dX9_notes_76 : decode cX9_notes 76 = .ok (.bipush 45, 2) := dk_16 45 (dk_at dksX9_notes_3 6 rfl rfl)
theorem dX9_notes_78 : decode cX9_notes 78 = .ok (.iaload, 1) := dk_46 (dk_at dksX9_notes_3 8 rfl rfl)
theorem dX9_notes_79 : decode cX9_notes 79 = .ok (.imul, 1) := dk_104 (dk_at dksX9_notes_3 9 rfl rfl)
theorem dX9_notes_80 : decode cX9_notes 80 = .ok (.iadd, 1) := dk_96 (dk_at dksX9_notes_3 10 rfl rfl)
theorem dX9_notes_81 : decode cX9_notes 81 = .ok (.iload_n 1, 1) := dk_27 (dk_at dksX9_notes_3 11 rfl rfl)
theorem dX9_notes_82 : decode cX9_notes 82 = .ok (.iadd, 1) := dk_96 (dk_at dksX9_notes_3 12 rfl rfl)
theorem dX9_notes_83 : decode cX9_notes 83 = .ok (.aload_n 0, 1) := dk_42 (dk_at dksX9_notes_3 13 rfl rfl)
theorem dX9_notes_84 : decode cX9_notes 84 = .ok (.getfield 36, 3) := dk_180 0 36 (dk_at dksX9_notes_3 14 rfl rfl)
theorem dX9_notes_87 : decode cX9_notes 87 = .ok (.iload_n 1, 1) := dk_27 (dk_at dksX9_notes_3 17 rfl rfl)
theorem dX9_notes_88 : decode cX9_notes 88 = .ok (.iaload, 1) := dk_46 (dk_at dksX9_notes_3 18 rfl rfl)
theorem dX9_notes_89 : decode cX9_notes 89 = .ok (.iastore, 1) := dk_79 (dk_at dksX9_notes_3 19 rfl rfl)
theorem dX9_notes_90 : decode cX9_notes 90 = .ok (.iinc 1 1, 3) := dk_132 1 1 (dk_at dksX9_notes_3 20 rfl rfl)
theorem dX9_notes_93 : decode cX9_notes 93 = .ok (.goto (-35), 3) := dk_167 255 221 (dk_at dksX9_notes_4 0 rfl rfl)
theorem dX9_notes_96 : decode cX9_notes 96 = .ok (.aload_n 0, 1) := dk_42 (dk_at dksX9_notes_4 3 rfl rfl)
theorem dX9_notes_97 : decode cX9_notes 97 = .ok (.getfield 13, 3) := dk_180 0 13 (dk_at dksX9_notes_4 4 rfl rfl)
theorem dX9_notes_100 : decode cX9_notes 100 = .ok (.bipush 45, 2) := dk_16 45 (dk_at dksX9_notes_4 7 rfl rfl)
theorem dX9_notes_102 : decode cX9_notes 102 = .ok (.dup2, 1) := dk_92 (dk_at dksX9_notes_4 9 rfl rfl)
theorem dX9_notes_103 : decode cX9_notes 103 = .ok (.iaload, 1) := dk_46 (dk_at dksX9_notes_4 10 rfl rfl)
theorem dX9_notes_104 : decode cX9_notes 104 = .ok (.iconst 1, 1) := dk_4 (dk_at dksX9_notes_4 11 rfl rfl)
theorem dX9_notes_105 : decode cX9_notes 105 = .ok (.iadd, 1) := dk_96 (dk_at dksX9_notes_4 12 rfl rfl)
theorem dX9_notes_106 : decode cX9_notes 106 = .ok (.iastore, 1) := dk_79 (dk_at dksX9_notes_4 13 rfl rfl)
theorem dX9_notes_107 : decode cX9_notes 107 = .ok (.return_, 1) := dk_177 (dk_at dksX9_notes_4 14 rfl rfl)
def dkwX9_tell_3 : List UInt8 := [46, 172]
abbrev dktX9_tell_3 : List UInt8 := dkwX9_tell_3 ++ []
def dkwX9_tell_2 : List UInt8 := [182, 1, 12, 42, 180, 0, 13, 16, 29, 27, 96, 28, 79, 42, 182, 1, 15, 42, 180, 0, 36, 6, 27, 96]
abbrev dktX9_tell_2 : List UInt8 := dkwX9_tell_2 ++ dktX9_tell_3
def dkwX9_tell_1 : List UInt8 := [133, 20, 1, 18, 42, 180, 0, 13, 4, 46, 4, 100, 133, 184, 0, 157, 154, 0, 6, 16, 254, 172, 42]
abbrev dktX9_tell_1 : List UInt8 := dkwX9_tell_1 ++ dktX9_tell_2
def dkwX9_tell_0 : List UInt8 := [42, 3, 181, 0, 1, 27, 133, 9, 42, 180, 0, 13, 5, 46, 4, 100, 133, 184, 0, 157, 153, 0, 23, 28]
abbrev dktX9_tell_0 : List UInt8 := dkwX9_tell_0 ++ dktX9_tell_1
theorem dksX9_tell_0 : cX9_tell.data.toList.drop 0 = dktX9_tell_0 := by decide +kernel
theorem dksX9_tell_1 : cX9_tell.data.toList.drop 24 = dktX9_tell_1 := dk_seg dksX9_tell_0 24 rfl rfl
theorem dksX9_tell_2 : cX9_tell.data.toList.drop 47 = dktX9_tell_2 := dk_seg dksX9_tell_1 23 rfl rfl
theorem dksX9_tell_3 : cX9_tell.data.toList.drop 71 = dktX9_tell_3 := dk_seg dksX9_tell_2 24 rfl rfl
theorem dX9_tell_0 : decode cX9_tell 0 = .ok (.aload_n 0, 1) := dk_42 (dk_at dksX9_tell_0 0 rfl rfl)
theorem dX9_tell_1 : decode cX9_tell 1 = .ok (.iconst 0, 1) := dk_3 (dk_at dksX9_tell_0 1 rfl rfl)
theorem dX9_tell_2 : decode cX9_tell 2 = .ok (.putfield 1, 3) := dk_181 0 1 (dk_at dksX9_tell_0 2 rfl rfl)
theorem dX9_tell_5 : decode cX9_tell 5 = .ok (.iload_n 1, 1) := dk_27 (dk_at dksX9_tell_0 5 rfl rfl)
theorem dX9_tell_6 : decode cX9_tell 6 = .ok (.i2l, 1) := dk_133 (dk_at dksX9_tell_0 6 rfl rfl)
theorem dX9_tell_7 : decode cX9_tell 7 = .ok (.lconst 0, 1) := dk_9 (dk_at dksX9_tell_0 7 rfl rfl)
theorem dX9_tell_8 : decode cX9_tell 8 = .ok (.aload_n 0, 1) := dk_42 (dk_at dksX9_tell_0 8 rfl rfl)
theorem dX9_tell_9 : decode cX9_tell 9 = .ok (.getfield 13, 3) := dk_180 0 13 (dk_at dksX9_tell_0 9 rfl rfl)
theorem dX9_tell_12 : decode cX9_tell 12 = .ok (.iconst 2, 1) := dk_5 (dk_at dksX9_tell_0 12 rfl rfl)
theorem dX9_tell_13 : decode cX9_tell 13 = .ok (.iaload, 1) := dk_46 (dk_at dksX9_tell_0 13 rfl rfl)
theorem dX9_tell_14 : decode cX9_tell 14 = .ok (.iconst 1, 1) := dk_4 (dk_at dksX9_tell_0 14 rfl rfl)
theorem dX9_tell_15 : decode cX9_tell 15 = .ok (.isub, 1) := dk_100 (dk_at dksX9_tell_0 15 rfl rfl)
theorem dX9_tell_16 : decode cX9_tell 16 = .ok (.i2l, 1) := dk_133 (dk_at dksX9_tell_0 16 rfl rfl)
theorem dX9_tell_17 : decode cX9_tell 17 = .ok (.invokestatic 157, 3) := dk_184 0 157 (dk_at dksX9_tell_0 17 rfl rfl)
theorem dX9_tell_20 : decode cX9_tell 20 = .ok (.ifCond .eq 23, 3) := dk_153 0 23 (dk_at dksX9_tell_0 20 rfl rfl)
theorem dX9_tell_23 : decode cX9_tell 23 = .ok (.iload_n 2, 1) := dk_28 (dk_at dksX9_tell_0 23 rfl rfl)
theorem dX9_tell_24 : decode cX9_tell 24 = .ok (.i2l, 1) := dk_133 (dk_at dksX9_tell_1 0 rfl rfl)
theorem dX9_tell_25 : decode cX9_tell 25 = .ok (.ldc2_w 274, 3) := dk_20 1 18 (dk_at dksX9_tell_1 1 rfl rfl)
theorem dX9_tell_28 : decode cX9_tell 28 = .ok (.aload_n 0, 1) := dk_42 (dk_at dksX9_tell_1 4 rfl rfl)
theorem dX9_tell_29 : decode cX9_tell 29 = .ok (.getfield 13, 3) := dk_180 0 13 (dk_at dksX9_tell_1 5 rfl rfl)
theorem dX9_tell_32 : decode cX9_tell 32 = .ok (.iconst 1, 1) := dk_4 (dk_at dksX9_tell_1 8 rfl rfl)
theorem dX9_tell_33 : decode cX9_tell 33 = .ok (.iaload, 1) := dk_46 (dk_at dksX9_tell_1 9 rfl rfl)
theorem dX9_tell_34 : decode cX9_tell 34 = .ok (.iconst 1, 1) := dk_4 (dk_at dksX9_tell_1 10 rfl rfl)
theorem dX9_tell_35 : decode cX9_tell 35 = .ok (.isub, 1) := dk_100 (dk_at dksX9_tell_1 11 rfl rfl)
theorem dX9_tell_36 : decode cX9_tell 36 = .ok (.i2l, 1) := dk_133 (dk_at dksX9_tell_1 12 rfl rfl)
theorem dX9_tell_37 : decode cX9_tell 37 = .ok (.invokestatic 157, 3) := dk_184 0 157 (dk_at dksX9_tell_1 13 rfl rfl)
theorem dX9_tell_40 : decode cX9_tell 40 = .ok (.ifCond .ne 6, 3) := dk_154 0 6 (dk_at dksX9_tell_1 16 rfl rfl)
theorem dX9_tell_43 : decode cX9_tell 43 = .ok (.bipush (-2), 2) := dk_16 254 (dk_at dksX9_tell_1 19 rfl rfl)
theorem dX9_tell_45 : decode cX9_tell 45 = .ok (.ireturn, 1) := dk_172 (dk_at dksX9_tell_1 21 rfl rfl)
theorem dX9_tell_46 : decode cX9_tell 46 = .ok (.aload_n 0, 1) := dk_42 (dk_at dksX9_tell_1 22 rfl rfl)
theorem dX9_tell_47 : decode cX9_tell 47 = .ok (.invokevirtual 268, 3) := dk_182 1 12 (dk_at dksX9_tell_2 0 rfl rfl)
theorem dX9_tell_50 : decode cX9_tell 50 = .ok (.aload_n 0, 1) := dk_42 (dk_at dksX9_tell_2 3 rfl rfl)
theorem dX9_tell_51 : decode cX9_tell 51 = .ok (.getfield 13, 3) := dk_180 0 13 (dk_at dksX9_tell_2 4 rfl rfl)
theorem dX9_tell_54 : decode cX9_tell 54 = .ok (.bipush 29, 2) := dk_16 29 (dk_at dksX9_tell_2 7 rfl rfl)
theorem dX9_tell_56 : decode cX9_tell 56 = .ok (.iload_n 1, 1) := dk_27 (dk_at dksX9_tell_2 9 rfl rfl)
theorem dX9_tell_57 : decode cX9_tell 57 = .ok (.iadd, 1) := dk_96 (dk_at dksX9_tell_2 10 rfl rfl)
theorem dX9_tell_58 : decode cX9_tell 58 = .ok (.iload_n 2, 1) := dk_28 (dk_at dksX9_tell_2 11 rfl rfl)
theorem dX9_tell_59 : decode cX9_tell 59 = .ok (.iastore, 1) := dk_79 (dk_at dksX9_tell_2 12 rfl rfl)
theorem dX9_tell_60 : decode cX9_tell 60 = .ok (.aload_n 0, 1) := dk_42 (dk_at dksX9_tell_2 13 rfl rfl)
theorem dX9_tell_61 : decode cX9_tell 61 = .ok (.invokevirtual 271, 3) := dk_182 1 15 (dk_at dksX9_tell_2 14 rfl rfl)
theorem dX9_tell_64 : decode cX9_tell 64 = .ok (.aload_n 0, 1) := dk_42 (dk_at dksX9_tell_2 17 rfl rfl)
theorem dX9_tell_65 : decode cX9_tell 65 = .ok (.getfield 36, 3) := dk_180 0 36 (dk_at dksX9_tell_2 18 rfl rfl)
theorem dX9_tell_68 : decode cX9_tell 68 = .ok (.iconst 3, 1) := dk_6 (dk_at dksX9_tell_2 21 rfl rfl)
theorem dX9_tell_69 : decode cX9_tell 69 = .ok (.iload_n 1, 1) := dk_27 (dk_at dksX9_tell_2 22 rfl rfl)
theorem dX9_tell_70 : decode cX9_tell 70 = .ok (.iadd, 1) := dk_96 (dk_at dksX9_tell_2 23 rfl rfl)
theorem dX9_tell_71 : decode cX9_tell 71 = .ok (.iaload, 1) := dk_46 (dk_at dksX9_tell_3 0 rfl rfl)
theorem dX9_tell_72 : decode cX9_tell 72 = .ok (.ireturn, 1) := dk_172 (dk_at dksX9_tell_3 1 rfl rfl)
def dkwX9_fog_1 : List UInt8 := [42, 180, 0, 13, 16, 27, 27, 79, 42, 182, 1, 15, 42, 180, 0, 36, 4, 46, 172]
abbrev dktX9_fog_1 : List UInt8 := dkwX9_fog_1 ++ []
def dkwX9_fog_0 : List UInt8 := [42, 3, 181, 0, 1, 27, 133, 9, 20, 1, 20, 184, 0, 157, 154, 0, 6, 16, 253, 172, 42, 182, 1, 12]
abbrev dktX9_fog_0 : List UInt8 := dkwX9_fog_0 ++ dktX9_fog_1
theorem dksX9_fog_0 : cX9_fog.data.toList.drop 0 = dktX9_fog_0 := by decide +kernel
theorem dksX9_fog_1 : cX9_fog.data.toList.drop 24 = dktX9_fog_1 := dk_seg dksX9_fog_0 24 rfl rfl
theorem dX9_fog_0 : decode cX9_fog 0 = .ok (.aload_n 0, 1) := dk_42 (dk_at dksX9_fog_0 0 rfl rfl)
theorem dX9_fog_1 : decode cX9_fog 1 = .ok (.iconst 0, 1) := dk_3 (dk_at dksX9_fog_0 1 rfl rfl)
theorem dX9_fog_2 : decode cX9_fog 2 = .ok (.putfield 1, 3) := dk_181 0 1 (dk_at dksX9_fog_0 2 rfl rfl)
theorem dX9_fog_5 : decode cX9_fog 5 = .ok (.iload_n 1, 1) := dk_27 (dk_at dksX9_fog_0 5 rfl rfl)
theorem dX9_fog_6 : decode cX9_fog 6 = .ok (.i2l, 1) := dk_133 (dk_at dksX9_fog_0 6 rfl rfl)
theorem dX9_fog_7 : decode cX9_fog 7 = .ok (.lconst 0, 1) := dk_9 (dk_at dksX9_fog_0 7 rfl rfl)
theorem dX9_fog_8 : decode cX9_fog 8 = .ok (.ldc2_w 276, 3) := dk_20 1 20 (dk_at dksX9_fog_0 8 rfl rfl)
theorem dX9_fog_11 : decode cX9_fog 11 = .ok (.invokestatic 157, 3) := dk_184 0 157 (dk_at dksX9_fog_0 11 rfl rfl)
theorem dX9_fog_14 : decode cX9_fog 14 = .ok (.ifCond .ne 6, 3) := dk_154 0 6 (dk_at dksX9_fog_0 14 rfl rfl)
theorem dX9_fog_17 : decode cX9_fog 17 = .ok (.bipush (-3), 2) := dk_16 253 (dk_at dksX9_fog_0 17 rfl rfl)
theorem dX9_fog_19 : decode cX9_fog 19 = .ok (.ireturn, 1) := dk_172 (dk_at dksX9_fog_0 19 rfl rfl)
theorem dX9_fog_20 : decode cX9_fog 20 = .ok (.aload_n 0, 1) := dk_42 (dk_at dksX9_fog_0 20 rfl rfl)
theorem dX9_fog_21 : decode cX9_fog 21 = .ok (.invokevirtual 268, 3) := dk_182 1 12 (dk_at dksX9_fog_0 21 rfl rfl)
theorem dX9_fog_24 : decode cX9_fog 24 = .ok (.aload_n 0, 1) := dk_42 (dk_at dksX9_fog_1 0 rfl rfl)
theorem dX9_fog_25 : decode cX9_fog 25 = .ok (.getfield 13, 3) := dk_180 0 13 (dk_at dksX9_fog_1 1 rfl rfl)
theorem dX9_fog_28 : decode cX9_fog 28 = .ok (.bipush 27, 2) := dk_16 27 (dk_at dksX9_fog_1 4 rfl rfl)
theorem dX9_fog_30 : decode cX9_fog 30 = .ok (.iload_n 1, 1) := dk_27 (dk_at dksX9_fog_1 6 rfl rfl)
theorem dX9_fog_31 : decode cX9_fog 31 = .ok (.iastore, 1) := dk_79 (dk_at dksX9_fog_1 7 rfl rfl)
theorem dX9_fog_32 : decode cX9_fog 32 = .ok (.aload_n 0, 1) := dk_42 (dk_at dksX9_fog_1 8 rfl rfl)
theorem dX9_fog_33 : decode cX9_fog 33 = .ok (.invokevirtual 271, 3) := dk_182 1 15 (dk_at dksX9_fog_1 9 rfl rfl)
theorem dX9_fog_36 : decode cX9_fog 36 = .ok (.aload_n 0, 1) := dk_42 (dk_at dksX9_fog_1 12 rfl rfl)
theorem dX9_fog_37 : decode cX9_fog 37 = .ok (.getfield 36, 3) := dk_180 0 36 (dk_at dksX9_fog_1 13 rfl rfl)
theorem dX9_fog_40 : decode cX9_fog 40 = .ok (.iconst 1, 1) := dk_4 (dk_at dksX9_fog_1 16 rfl rfl)
theorem dX9_fog_41 : decode cX9_fog 41 = .ok (.iaload, 1) := dk_46 (dk_at dksX9_fog_1 17 rfl rfl)
theorem dX9_fog_42 : decode cX9_fog 42 = .ok (.ireturn, 1) := dk_172 (dk_at dksX9_fog_1 18 rfl rfl)
def dkwX9_hours_2 : List UInt8 := [182, 1, 15, 28, 172]
abbrev dktX9_hours_2 : List UInt8 := dkwX9_hours_2 ++ []
def dkwX9_hours_1 : List UInt8 := [3, 61, 3, 62, 29, 27, 162, 0, 16, 28, 42, 182, 1, 24, 96, 61, 132, 3, 1, 167, 255, 241, 42]
abbrev dktX9_hours_1 : List UInt8 := dkwX9_hours_1 ++ dktX9_hours_2
def dkwX9_hours_0 : List UInt8 := [42, 3, 181, 0, 1, 27, 133, 10, 20, 1, 22, 184, 0, 157, 154, 0, 6, 16, 253, 172, 42, 182, 1, 12]
abbrev dktX9_hours_0 : List UInt8 := dkwX9_hours_0 ++ dktX9_hours_1
theorem dksX9_hours_0 : cX9_hours.data.toList.drop 0 = dktX9_hours_0 := by decide +kernel
theorem dksX9_hours_1 : cX9_hours.data.toList.drop 24 = dktX9_hours_1 := dk_seg dksX9_hours_0 24 rfl rfl
theorem dksX9_hours_2 : cX9_hours.data.toList.drop 47 = dktX9_hours_2 := dk_seg dksX9_hours_1 23 rfl rfl
theorem dX9_hours_0 : decode cX9_hours 0 = .ok (.aload_n 0, 1) := dk_42 (dk_at dksX9_hours_0 0 rfl rfl)
theorem dX9_hours_1 : decode cX9_hours 1 = .ok (.iconst 0, 1) := dk_3 (dk_at dksX9_hours_0 1 rfl rfl)
theorem dX9_hours_2 : decode cX9_hours 2 = .ok (.putfield 1, 3) := dk_181 0 1 (dk_at dksX9_hours_0 2 rfl rfl)
theorem dX9_hours_5 : decode cX9_hours 5 = .ok (.iload_n 1, 1) := dk_27 (dk_at dksX9_hours_0 5 rfl rfl)
theorem dX9_hours_6 : decode cX9_hours 6 = .ok (.i2l, 1) := dk_133 (dk_at dksX9_hours_0 6 rfl rfl)
theorem dX9_hours_7 : decode cX9_hours 7 = .ok (.lconst 1, 1) := dk_10 (dk_at dksX9_hours_0 7 rfl rfl)
theorem dX9_hours_8 : decode cX9_hours 8 = .ok (.ldc2_w 278, 3) := dk_20 1 22 (dk_at dksX9_hours_0 8 rfl rfl)
theorem dX9_hours_11 : decode cX9_hours 11 = .ok (.invokestatic 157, 3) := dk_184 0 157 (dk_at dksX9_hours_0 11 rfl rfl)
theorem dX9_hours_14 : decode cX9_hours 14 = .ok (.ifCond .ne 6, 3) := dk_154 0 6 (dk_at dksX9_hours_0 14 rfl rfl)
theorem dX9_hours_17 : decode cX9_hours 17 = .ok (.bipush (-3), 2) := dk_16 253 (dk_at dksX9_hours_0 17 rfl rfl)
theorem dX9_hours_19 : decode cX9_hours 19 = .ok (.ireturn, 1) := dk_172 (dk_at dksX9_hours_0 19 rfl rfl)
theorem dX9_hours_20 : decode cX9_hours 20 = .ok (.aload_n 0, 1) := dk_42 (dk_at dksX9_hours_0 20 rfl rfl)
theorem dX9_hours_21 : decode cX9_hours 21 = .ok (.invokevirtual 268, 3) := dk_182 1 12 (dk_at dksX9_hours_0 21 rfl rfl)
theorem dX9_hours_24 : decode cX9_hours 24 = .ok (.iconst 0, 1) := dk_3 (dk_at dksX9_hours_1 0 rfl rfl)
theorem dX9_hours_25 : decode cX9_hours 25 = .ok (.istore_n 2, 1) := dk_61 (dk_at dksX9_hours_1 1 rfl rfl)
theorem dX9_hours_26 : decode cX9_hours 26 = .ok (.iconst 0, 1) := dk_3 (dk_at dksX9_hours_1 2 rfl rfl)
theorem dX9_hours_27 : decode cX9_hours 27 = .ok (.istore_n 3, 1) := dk_62 (dk_at dksX9_hours_1 3 rfl rfl)
theorem dX9_hours_28 : decode cX9_hours 28 = .ok (.iload_n 3, 1) := dk_29 (dk_at dksX9_hours_1 4 rfl rfl)
theorem dX9_hours_29 : decode cX9_hours 29 = .ok (.iload_n 1, 1) := dk_27 (dk_at dksX9_hours_1 5 rfl rfl)
theorem dX9_hours_30 : decode cX9_hours 30 = .ok (.if_icmp .ge 16, 3) := dk_162 0 16 (dk_at dksX9_hours_1 6 rfl rfl)
theorem dX9_hours_33 : decode cX9_hours 33 = .ok (.iload_n 2, 1) := dk_28 (dk_at dksX9_hours_1 9 rfl rfl)
theorem dX9_hours_34 : decode cX9_hours 34 = .ok (.aload_n 0, 1) := dk_42 (dk_at dksX9_hours_1 10 rfl rfl)
theorem dX9_hours_35 : decode cX9_hours 35 = .ok (.invokevirtual 280, 3) := dk_182 1 24 (dk_at dksX9_hours_1 11 rfl rfl)
theorem dX9_hours_38 : decode cX9_hours 38 = .ok (.iadd, 1) := dk_96 (dk_at dksX9_hours_1 14 rfl rfl)
theorem dX9_hours_39 : decode cX9_hours 39 = .ok (.istore_n 2, 1) := dk_61 (dk_at dksX9_hours_1 15 rfl rfl)
theorem dX9_hours_40 : decode cX9_hours 40 = .ok (.iinc 3 1, 3) := dk_132 3 1 (dk_at dksX9_hours_1 16 rfl rfl)
theorem dX9_hours_43 : decode cX9_hours 43 = .ok (.goto (-15), 3) := dk_167 255 241 (dk_at dksX9_hours_1 19 rfl rfl)
theorem dX9_hours_46 : decode cX9_hours 46 = .ok (.aload_n 0, 1) := dk_42 (dk_at dksX9_hours_1 22 rfl rfl)
theorem dX9_hours_47 : decode cX9_hours 47 = .ok (.invokevirtual 271, 3) := dk_182 1 15 (dk_at dksX9_hours_2 0 rfl rfl)
theorem dX9_hours_50 : decode cX9_hours 50 = .ok (.iload_n 2, 1) := dk_28 (dk_at dksX9_hours_2 3 rfl rfl)
theorem dX9_hours_51 : decode cX9_hours 51 = .ok (.ireturn, 1) := dk_172 (dk_at dksX9_hours_2 4 rfl rfl)
def dkwX9_goesHour_5 : List UInt8 := [172]
abbrev dktX9_goesHour_5 : List UInt8 := dkwX9_goesHour_5 ++ []
def dkwX9_goesHour_4 : List UInt8 := [180, 0, 13, 16, 27, 46, 158, 0, 14, 42, 180, 0, 13, 16, 27, 92, 46, 4, 100, 79, 42, 182, 0, 222]
abbrev dktX9_goesHour_4 : List UInt8 := dkwX9_goesHour_4 ++ dktX9_goesHour_5
def dkwX9_goesHour_3 : List UInt8 := [16, 40, 27, 96, 3, 79, 132, 1, 1, 167, 255, 178, 42, 180, 0, 13, 16, 26, 92, 46, 4, 96, 79, 42]
abbrev dktX9_goesHour_3 : List UInt8 := dkwX9_goesHour_3 ++ dktX9_goesHour_4
def dkwX9_goesHour_2 : List UInt8 := [27, 96, 46, 28, 42, 42, 180, 0, 13, 16, 26, 46, 182, 0, 235, 182, 0, 238, 79, 42, 180, 0, 13]
abbrev dktX9_goesHour_2 : List UInt8 := dkwX9_goesHour_2 ++ dktX9_goesHour_3
def dkwX9_goesHour_1 : List UInt8 := [133, 28, 133, 182, 1, 8, 154, 0, 37, 42, 180, 0, 13, 16, 35, 27, 96, 42, 42, 180, 0, 13, 16, 35]
abbrev dktX9_goesHour_1 : List UInt8 := dkwX9_goesHour_1 ++ dktX9_goesHour_2
def dkwX9_goesHour_0 : List UInt8 := [3, 60, 27, 42, 180, 0, 13, 6, 46, 162, 0, 74, 42, 180, 0, 13, 16, 40, 27, 96, 46, 61, 42, 27]
abbrev dktX9_goesHour_0 : List UInt8 := dkwX9_goesHour_0 ++ dktX9_goesHour_1
theorem dksX9_goesHour_0 : cX9_goesHour.data.toList.drop 0 = dktX9_goesHour_0 := by decide +kernel
theorem dksX9_goesHour_1 : cX9_goesHour.data.toList.drop 24 = dktX9_goesHour_1 := dk_seg dksX9_goesHour_0 24 rfl rfl
theorem dksX9_goesHour_2 : cX9_goesHour.data.toList.drop 48 = dktX9_goesHour_2 := dk_seg dksX9_goesHour_1 24 rfl rfl
theorem dksX9_goesHour_3 : cX9_goesHour.data.toList.drop 71 = dktX9_goesHour_3 := dk_seg dksX9_goesHour_2 23 rfl rfl
theorem dksX9_goesHour_4 : cX9_goesHour.data.toList.drop 95 = dktX9_goesHour_4 := dk_seg dksX9_goesHour_3 24 rfl rfl
theorem dksX9_goesHour_5 : cX9_goesHour.data.toList.drop 119 = dktX9_goesHour_5 := dk_seg dksX9_goesHour_4 24 rfl rfl
theorem dX9_goesHour_0 : decode cX9_goesHour 0 = .ok (.iconst 0, 1) := dk_3 (dk_at dksX9_goesHour_0 0 rfl rfl)
theorem dX9_goesHour_1 : decode cX9_goesHour 1 = .ok (.istore_n 1, 1) := dk_60 (dk_at dksX9_goesHour_0 1 rfl rfl)
theorem dX9_goesHour_2 : decode cX9_goesHour 2 = .ok (.iload_n 1, 1) := dk_27 (dk_at dksX9_goesHour_0 2 rfl rfl)
theorem dX9_goesHour_3 : decode cX9_goesHour 3 = .ok (.aload_n 0, 1) := dk_42 (dk_at dksX9_goesHour_0 3 rfl rfl)
theorem dX9_goesHour_4 : decode cX9_goesHour 4 = .ok (.getfield 13, 3) := dk_180 0 13 (dk_at dksX9_goesHour_0 4 rfl rfl)
theorem dX9_goesHour_7 : decode cX9_goesHour 7 = .ok (.iconst 3, 1) := dk_6 (dk_at dksX9_goesHour_0 7 rfl rfl)
theorem dX9_goesHour_8 : decode cX9_goesHour 8 = .ok (.iaload, 1) := dk_46 (dk_at dksX9_goesHour_0 8 rfl rfl)
theorem dX9_goesHour_9 : decode cX9_goesHour 9 = .ok (.if_icmp .ge 74, 3) := dk_162 0 74 (dk_at dksX9_goesHour_0 9 rfl rfl)
theorem dX9_goesHour_12 : decode cX9_goesHour 12 = .ok (.aload_n 0, 1) := dk_42 (dk_at dksX9_goesHour_0 12 rfl rfl)
theorem dX9_goesHour_13 : decode cX9_goesHour 13 = .ok (.getfield 13, 3) := dk_180 0 13 (dk_at dksX9_goesHour_0 13 rfl rfl)
theorem dX9_goesHour_16 : decode cX9_goesHour 16 = .ok (.bipush 40, 2) := dk_16 40 (dk_at dksX9_goesHour_0 16 rfl rfl)
theorem dX9_goesHour_18 : decode cX9_goesHour 18 = .ok (.iload_n 1, 1) := dk_27 (dk_at dksX9_goesHour_0 18 rfl rfl)
theorem dX9_goesHour_19 : decode cX9_goesHour 19 = .ok (.iadd, 1) := dk_96 (dk_at dksX9_goesHour_0 19 rfl rfl)
theorem dX9_goesHour_20 : decode cX9_goesHour 20 = .ok (.iaload, 1) := dk_46 (dk_at dksX9_goesHour_0 20 rfl rfl)
theorem dX9_goesHour_21 : decode cX9_goesHour 21 = .ok (.istore_n 2, 1) := dk_61 (dk_at dksX9_goesHour_0 21 rfl rfl)
theorem dX9_goesHour_22 : decode cX9_goesHour 22 = .ok (.aload_n 0, 1) := dk_42 (dk_at dksX9_goesHour_0 22 rfl rfl)
theorem dX9_goesHour_23 : decode cX9_goesHour 23 = .ok (.iload_n 1, 1) := dk_27 (dk_at dksX9_goesHour_0 23 rfl rfl)
theorem dX9_goesHour_24 : decode cX9_goesHour 24 = .ok (.i2l, 1) := dk_133 (dk_at dksX9_goesHour_1 0 rfl rfl)
theorem dX9_goesHour_25 : decode cX9_goesHour 25 = .ok (.iload_n 2, 1) := dk_28 (dk_at dksX9_goesHour_1 1 rfl rfl)
theorem dX9_goesHour_26 : decode cX9_goesHour 26 = .ok (.i2l, 1) := dk_133 (dk_at dksX9_goesHour_1 2 rfl rfl)
theorem dX9_goesHour_27 : decode cX9_goesHour 27 = .ok (.invokevirtual 264, 3) := dk_182 1 8 (dk_at dksX9_goesHour_1 3 rfl rfl)
theorem dX9_goesHour_30 : decode cX9_goesHour 30 = .ok (.ifCond .ne 37, 3) := dk_154 0 37 (dk_at dksX9_goesHour_1 6 rfl rfl)
theorem dX9_goesHour_33 : decode cX9_goesHour 33 = .ok (.aload_n 0, 1) := dk_42 (dk_at dksX9_goesHour_1 9 rfl rfl)
theorem dX9_goesHour_34 : decode cX9_goesHour 34 = .ok (.getfield 13, 3) := dk_180 0 13 (dk_at dksX9_goesHour_1 10 rfl rfl)
theorem dX9_goesHour_37 : decode cX9_goesHour 37 = .ok (.bipush 35, 2) := dk_16 35 (dk_at dksX9_goesHour_1 13 rfl rfl)
theorem dX9_goesHour_39 : decode cX9_goesHour 39 = .ok (.iload_n 1, 1) := dk_27 (dk_at dksX9_goesHour_1 15 rfl rfl)
theorem dX9_goesHour_40 : decode cX9_goesHour 40 = .ok (.iadd, 1) := dk_96 (dk_at dksX9_goesHour_1 16 rfl rfl)
theorem dX9_goesHour_41 : decode cX9_goesHour 41 = .ok (.aload_n 0, 1) := dk_42 (dk_at dksX9_goesHour_1 17 rfl rfl)
theorem dX9_goesHour_42 : decode cX9_goesHour 42 = .ok (.aload_n 0, 1) := dk_42 (dk_at dksX9_goesHour_1 18 rfl rfl)
theorem dX9_goesHour_43 : decode cX9_goesHour 43 = .ok (.getfield 13, 3) := dk_180 0 13 (dk_at dksX9_goesHour_1 19 rfl rfl)
theorem dX9_goesHour_46 : decode cX9_goesHour 46 = .ok (.bipush 35, 2) := dk_16 35 (dk_at dksX9_goesHour_1 22 rfl rfl)
theorem dX9_goesHour_48 : decode cX9_goesHour 48 = .ok (.iload_n 1, 1) := dk_27 (dk_at dksX9_goesHour_2 0 rfl rfl)
theorem dX9_goesHour_49 : decode cX9_goesHour 49 = .ok (.iadd, 1) := dk_96 (dk_at dksX9_goesHour_2 1 rfl rfl)
theorem dX9_goesHour_50 : decode cX9_goesHour 50 = .ok (.iaload, 1) := dk_46 (dk_at dksX9_goesHour_2 2 rfl rfl)
theorem dX9_goesHour_51 : decode cX9_goesHour 51 = .ok (.iload_n 2, 1) := dk_28 (dk_at dksX9_goesHour_2 3 rfl rfl)
theorem dX9_goesHour_52 : decode cX9_goesHour 52 = .ok (.aload_n 0, 1) := dk_42 (dk_at dksX9_goesHour_2 4 rfl rfl)
theorem dX9_goesHour_53 : decode cX9_goesHour 53 = .ok (.aload_n 0, 1) := dk_42 (dk_at dksX9_goesHour_2 5 rfl rfl)
theorem dX9_goesHour_54 : decode cX9_goesHour 54 = .ok (.getfield 13, 3) := dk_180 0 13 (dk_at dksX9_goesHour_2 6 rfl rfl)
theorem dX9_goesHour_57 : decode cX9_goesHour 57 = .ok (.bipush 26, 2) := dk_16 26 (dk_at dksX9_goesHour_2 9 rfl rfl)
theorem dX9_goesHour_59 : decode cX9_goesHour 59 = .ok (.iaload, 1) := dk_46 (dk_at dksX9_goesHour_2 11 rfl rfl)
theorem dX9_goesHour_60 : decode cX9_goesHour 60 = .ok (.invokevirtual 235, 3) := dk_182 0 235 (dk_at dksX9_goesHour_2 12 rfl rfl)
theorem dX9_goesHour_63 : decode cX9_goesHour 63 = .ok (.invokevirtual 238, 3) := dk_182 0 238 (dk_at dksX9_goesHour_2 15 rfl rfl)
theorem dX9_goesHour_66 : decode cX9_goesHour 66 = .ok (.iastore, 1) := dk_79 (dk_at dksX9_goesHour_2 18 rfl rfl)
theorem dX9_goesHour_67 : decode cX9_goesHour 67 = .ok (.aload_n 0, 1) := dk_42 (dk_at dksX9_goesHour_2 19 rfl rfl)
theorem dX9_goesHour_68 : decode cX9_goesHour 68 = .ok (.getfield 13, 3) := dk_180 0 13 (dk_at dksX9_goesHour_2 20 rfl rfl)
theorem dX9_goesHour_71 : decode cX9_goesHour 71 = .ok (.bipush 40, 2) := dk_16 40 (dk_at dksX9_goesHour_3 0 rfl rfl)
theorem dX9_goesHour_73 : decode cX9_goesHour 73 = .ok (.iload_n 1, 1) := dk_27 (dk_at dksX9_goesHour_3 2 rfl rfl)
theorem dX9_goesHour_74 : decode cX9_goesHour 74 = .ok (.iadd, 1) := dk_96 (dk_at dksX9_goesHour_3 3 rfl rfl)
theorem dX9_goesHour_75 : decode cX9_goesHour 75 = .ok (.iconst 0, 1) := dk_3 (dk_at dksX9_goesHour_3 4 rfl rfl)
theorem dX9_goesHour_76 : decode cX9_goesHour 76 = .ok (.iastore, 1) := dk_79 (dk_at dksX9_goesHour_3 5 rfl rfl)
theorem dX9_goesHour_77 : decode cX9_goesHour 77 = .ok (.iinc 1 1, 3) := dk_132 1 1 (dk_at dksX9_goesHour_3 6 rfl rfl)
theorem dX9_goesHour_80 : decode cX9_goesHour 80 = .ok (.goto (-78), 3) := dk_167 255 178 (dk_at dksX9_goesHour_3 9 rfl rfl)
theorem dX9_goesHour_83 : decode cX9_goesHour 83 = .ok (.aload_n 0, 1) := dk_42 (dk_at dksX9_goesHour_3 12 rfl rfl)
theorem dX9_goesHour_84 : decode cX9_goesHour 84 = .ok (.getfield 13, 3) := dk_180 0 13 (dk_at dksX9_goesHour_3 13 rfl rfl)
theorem dX9_goesHour_87 : decode cX9_goesHour 87 = .ok (.bipush 26, 2) := dk_16 26 (dk_at dksX9_goesHour_3 16 rfl rfl)
theorem dX9_goesHour_89 : decode cX9_goesHour 89 = .ok (.dup2, 1) := dk_92 (dk_at dksX9_goesHour_3 18 rfl rfl)
theorem dX9_goesHour_90 : decode cX9_goesHour 90 = .ok (.iaload, 1) := dk_46 (dk_at dksX9_goesHour_3 19 rfl rfl)
theorem dX9_goesHour_91 : decode cX9_goesHour 91 = .ok (.iconst 1, 1) := dk_4 (dk_at dksX9_goesHour_3 20 rfl rfl)
theorem dX9_goesHour_92 : decode cX9_goesHour 92 = .ok (.iadd, 1) := dk_96 (dk_at dksX9_goesHour_3 21 rfl rfl)
theorem dX9_goesHour_93 : decode cX9_goesHour 93 = .ok (.iastore, 1) := dk_79 (dk_at dksX9_goesHour_3 22 rfl rfl)
theorem dX9_goesHour_94 : decode cX9_goesHour 94 = .ok (.aload_n 0, 1) := dk_42 (dk_at dksX9_goesHour_3 23 rfl rfl)
theorem dX9_goesHour_95 : decode cX9_goesHour 95 = .ok (.getfield 13, 3) := dk_180 0 13 (dk_at dksX9_goesHour_4 0 rfl rfl)
theorem dX9_goesHour_98 : decode cX9_goesHour 98 = .ok (.bipush 27, 2) := dk_16 27 (dk_at dksX9_goesHour_4 3 rfl rfl)
theorem dX9_goesHour_100 : decode cX9_goesHour 100 = .ok (.iaload, 1) := dk_46 (dk_at dksX9_goesHour_4 5 rfl rfl)
theorem dX9_goesHour_101 : decode cX9_goesHour 101 = .ok (.ifCond .le 14, 3) := dk_158 0 14 (dk_at dksX9_goesHour_4 6 rfl rfl)
theorem dX9_goesHour_104 : decode cX9_goesHour 104 = .ok (.aload_n 0, 1) := dk_42 (dk_at dksX9_goesHour_4 9 rfl rfl)
theorem dX9_goesHour_105 : decode cX9_goesHour 105 = .ok (.getfield 13, 3) := dk_180 0 13 (dk_at dksX9_goesHour_4 10 rfl rfl)
theorem dX9_goesHour_108 : decode cX9_goesHour 108 = .ok (.bipush 27, 2) := dk_16 27 (dk_at dksX9_goesHour_4 13 rfl rfl)
theorem dX9_goesHour_110 : decode cX9_goesHour 110 = .ok (.dup2, 1) := dk_92 (dk_at dksX9_goesHour_4 15 rfl rfl)
theorem dX9_goesHour_111 : decode cX9_goesHour 111 = .ok (.iaload, 1) := dk_46 (dk_at dksX9_goesHour_4 16 rfl rfl)
theorem dX9_goesHour_112 : decode cX9_goesHour 112 = .ok (.iconst 1, 1) := dk_4 (dk_at dksX9_goesHour_4 17 rfl rfl)
theorem dX9_goesHour_113 : decode cX9_goesHour 113 = .ok (.isub, 1) := dk_100 (dk_at dksX9_goesHour_4 18 rfl rfl)
theorem dX9_goesHour_114 : decode cX9_goesHour 114 = .ok (.iastore, 1) := dk_79 (dk_at dksX9_goesHour_4 19 rfl rfl)
theorem dX9_goesHour_115 : decode cX9_goesHour 115 = .ok (.aload_n 0, 1) := dk_42 (dk_at dksX9_goesHour_4 20 rfl rfl)
theorem dX9_goesHour_116 : decode cX9_goesHour 116 = .ok (.invokevirtual 222, 3) := dk_182 0 222 (dk_at dksX9_goesHour_4 21 rfl rfl)
theorem dX9_goesHour_119 : decode cX9_goesHour 119 = .ok (.ireturn, 1) := dk_172 (dk_at dksX9_goesHour_5 0 rfl rfl)
def dkwX9_undo_3 : List UInt8 := [16, 45, 46, 104, 96, 28, 96, 46, 79, 132, 2, 1, 167, 255, 218, 42, 180, 0, 13, 16, 45, 46, 172]
abbrev dktX9_undo_3 : List UInt8 := dkwX9_undo_3 ++ []
def dkwX9_undo_2 : List UInt8 := [162, 0, 38, 42, 180, 0, 13, 16, 26, 28, 96, 42, 180, 0, 13, 16, 46, 16, 19, 42, 180, 0, 13]
abbrev dktX9_undo_2 : List UInt8 := dkwX9_undo_2 ++ dktX9_undo_3
def dkwX9_undo_1 : List UInt8 := [46, 164, 0, 6, 16, 253, 172, 42, 180, 0, 13, 16, 45, 92, 46, 27, 100, 79, 3, 61, 28, 16, 19]
abbrev dktX9_undo_1 : List UInt8 := dkwX9_undo_1 ++ dktX9_undo_2
def dkwX9_undo_0 : List UInt8 := [42, 3, 181, 0, 1, 27, 133, 10, 20, 1, 27, 184, 0, 157, 153, 0, 14, 27, 42, 180, 0, 13, 16, 45]
abbrev dktX9_undo_0 : List UInt8 := dkwX9_undo_0 ++ dktX9_undo_1
theorem dksX9_undo_0 : cX9_undo.data.toList.drop 0 = dktX9_undo_0 := by decide +kernel
theorem dksX9_undo_1 : cX9_undo.data.toList.drop 24 = dktX9_undo_1 := dk_seg dksX9_undo_0 24 rfl rfl
theorem dksX9_undo_2 : cX9_undo.data.toList.drop 47 = dktX9_undo_2 := dk_seg dksX9_undo_1 23 rfl rfl
theorem dksX9_undo_3 : cX9_undo.data.toList.drop 70 = dktX9_undo_3 := dk_seg dksX9_undo_2 23 rfl rfl
theorem dX9_undo_0 : decode cX9_undo 0 = .ok (.aload_n 0, 1) := dk_42 (dk_at dksX9_undo_0 0 rfl rfl)
theorem dX9_undo_1 : decode cX9_undo 1 = .ok (.iconst 0, 1) := dk_3 (dk_at dksX9_undo_0 1 rfl rfl)
theorem dX9_undo_2 : decode cX9_undo 2 = .ok (.putfield 1, 3) := dk_181 0 1 (dk_at dksX9_undo_0 2 rfl rfl)
theorem dX9_undo_5 : decode cX9_undo 5 = .ok (.iload_n 1, 1) := dk_27 (dk_at dksX9_undo_0 5 rfl rfl)
theorem dX9_undo_6 : decode cX9_undo 6 = .ok (.i2l, 1) := dk_133 (dk_at dksX9_undo_0 6 rfl rfl)
theorem dX9_undo_7 : decode cX9_undo 7 = .ok (.lconst 1, 1) := dk_10 (dk_at dksX9_undo_0 7 rfl rfl)
theorem dX9_undo_8 : decode cX9_undo 8 = .ok (.ldc2_w 283, 3) := dk_20 1 27 (dk_at dksX9_undo_0 8 rfl rfl)
theorem dX9_undo_11 : decode cX9_undo 11 = .ok (.invokestatic 157, 3) := dk_184 0 157 (dk_at dksX9_undo_0 11 rfl rfl)
theorem dX9_undo_14 : decode cX9_undo 14 = .ok (.ifCond .eq 14, 3) := dk_153 0 14 (dk_at dksX9_undo_0 14 rfl rfl)
theorem dX9_undo_17 : decode cX9_undo 17 = .ok (.iload_n 1, 1) := dk_27 (dk_at dksX9_undo_0 17 rfl rfl)
theorem dX9_undo_18 : decode cX9_undo 18 = .ok (.aload_n 0, 1) := dk_42 (dk_at dksX9_undo_0 18 rfl rfl)
theorem dX9_undo_19 : decode cX9_undo 19 = .ok (.getfield 13, 3) := dk_180 0 13 (dk_at dksX9_undo_0 19 rfl rfl)
theorem dX9_undo_22 : decode cX9_undo 22 = .ok (.bipush 45, 2) := dk_16 45 (dk_at dksX9_undo_0 22 rfl rfl)
theorem dX9_undo_24 : decode cX9_undo 24 = .ok (.iaload, 1) := dk_46 (dk_at dksX9_undo_1 0 rfl rfl)
theorem dX9_undo_25 : decode cX9_undo 25 = .ok (.if_icmp .le 6, 3) := dk_164 0 6 (dk_at dksX9_undo_1 1 rfl rfl)
theorem dX9_undo_28 : decode cX9_undo 28 = .ok (.bipush (-3), 2) := dk_16 253 (dk_at dksX9_undo_1 4 rfl rfl)
theorem dX9_undo_30 : decode cX9_undo 30 = .ok (.ireturn, 1) := dk_172 (dk_at dksX9_undo_1 6 rfl rfl)
theorem dX9_undo_31 : decode cX9_undo 31 = .ok (.aload_n 0, 1) := dk_42 (dk_at dksX9_undo_1 7 rfl rfl)
theorem dX9_undo_32 : decode cX9_undo 32 = .ok (.getfield 13, 3) := dk_180 0 13 (dk_at dksX9_undo_1 8 rfl rfl)
theorem dX9_undo_35 : decode cX9_undo 35 = .ok (.bipush 45, 2) := dk_16 45 (dk_at dksX9_undo_1 11 rfl rfl)
theorem dX9_undo_37 : decode cX9_undo 37 = .ok (.dup2, 1) := dk_92 (dk_at dksX9_undo_1 13 rfl rfl)
theorem dX9_undo_38 : decode cX9_undo 38 = .ok (.iaload, 1) := dk_46 (dk_at dksX9_undo_1 14 rfl rfl)
theorem dX9_undo_39 : decode cX9_undo 39 = .ok (.iload_n 1, 1) := dk_27 (dk_at dksX9_undo_1 15 rfl rfl)
theorem dX9_undo_40 : decode cX9_undo 40 = .ok (.isub, 1) := dk_100 (dk_at dksX9_undo_1 16 rfl rfl)
theorem dX9_undo_41 : decode cX9_undo 41 = .ok (.iastore, 1) := dk_79 (dk_at dksX9_undo_1 17 rfl rfl)
theorem dX9_undo_42 : decode cX9_undo 42 = .ok (.iconst 0, 1) := dk_3 (dk_at dksX9_undo_1 18 rfl rfl)
theorem dX9_undo_43 : decode cX9_undo 43 = .ok (.istore_n 2, 1) := dk_61 (dk_at dksX9_undo_1 19 rfl rfl)
theorem dX9_undo_44 : decode cX9_undo 44 = .ok (.iload_n 2, 1) := dk_28 (dk_at dksX9_undo_1 20 rfl rfl)
theorem dX9_undo_45 : decode cX9_undo 45 = .ok (.bipush 19, 2) := dk_16 19 (dk_at dksX9_undo_1 21 rfl rfl)
theorem dX9_undo_47 : decode cX9_undo 47 = .ok (.if_icmp .ge 38, 3) := dk_162 0 38 (dk_at dksX9_undo_2 0 rfl rfl)
theorem dX9_undo_50 : decode cX9_undo 50 = .ok (.aload_n 0, 1) := dk_42 (dk_at dksX9_undo_2 3 rfl rfl)
theorem dX9_undo_51 : decode cX9_undo 51 = .ok (.getfield 13, 3) := dk_180 0 13 (dk_at dksX9_undo_2 4 rfl rfl)
theorem dX9_undo_54 : decode cX9_undo 54 = .ok (.bipush 26, 2) := dk_16 26 (dk_at dksX9_undo_2 7 rfl rfl)
theorem dX9_undo_56 : decode cX9_undo 56 = .ok (.iload_n 2, 1) := dk_28 (dk_at dksX9_undo_2 9 rfl rfl)
theorem dX9_undo_57 : decode cX9_undo 57 = .ok (.iadd, 1) := dk_96 (dk_at dksX9_undo_2 10 rfl rfl)
theorem dX9_undo_58 : decode cX9_undo 58 = .ok (.aload_n 0, 1) := dk_42 (dk_at dksX9_undo_2 11 rfl rfl)
theorem dX9_undo_59 : decode cX9_undo 59 = .ok (.getfield 13, 3) := dk_180 0 13 (dk_at dksX9_undo_2 12 rfl rfl)
theorem dX9_undo_62 : decode cX9_undo 62 = .ok (.bipush 46, 2) := dk_16 46 (dk_at dksX9_undo_2 15 rfl rfl)
theorem dX9_undo_64 : decode cX9_undo 64 = .ok (.bipush 19, 2) := dk_16 19 (dk_at dksX9_undo_2 17 rfl rfl)
theorem dX9_undo_66 : decode cX9_undo 66 = .ok (.aload_n 0, 1) := dk_42 (dk_at dksX9_undo_2 19 rfl rfl)
theorem dX9_undo_67 : decode cX9_undo 67 = .ok (.getfield 13, 3) := dk_180 0 13 (dk_at dksX9_undo_2 20 rfl rfl)
theorem dX9_undo_70 : decode cX9_undo 70 = .ok (.bipush 45, 2) := dk_16 45 (dk_at dksX9_undo_3 0 rfl rfl)
theorem dX9_undo_72 : decode cX9_undo 72 = .ok (.iaload, 1) := dk_46 (dk_at dksX9_undo_3 2 rfl rfl)
theorem dX9_undo_73 : decode cX9_undo 73 = .ok (.imul, 1) := dk_104 (dk_at dksX9_undo_3 3 rfl rfl)
theorem dX9_undo_74 : decode cX9_undo 74 = .ok (.iadd, 1) := dk_96 (dk_at dksX9_undo_3 4 rfl rfl)
theorem dX9_undo_75 : decode cX9_undo 75 = .ok (.iload_n 2, 1) := dk_28 (dk_at dksX9_undo_3 5 rfl rfl)
theorem dX9_undo_76 : decode cX9_undo 76 = .ok (.iadd, 1) := dk_96 (dk_at dksX9_undo_3 6 rfl rfl)
theorem dX9_undo_77 : decode cX9_undo 77 = .ok (.iaload, 1) := dk_46 (dk_at dksX9_undo_3 7 rfl rfl)
theorem dX9_undo_78 : decode cX9_undo 78 = .ok (.iastore, 1) := dk_79 (dk_at dksX9_undo_3 8 rfl rfl)
theorem dX9_undo_79 : decode cX9_undo 79 = .ok (.iinc 2 1, 3) := dk_132 2 1 (dk_at dksX9_undo_3 9 rfl rfl)
theorem dX9_undo_82 : decode cX9_undo 82 = .ok (.goto (-38), 3) := dk_167 255 218 (dk_at dksX9_undo_3 12 rfl rfl)
theorem dX9_undo_85 : decode cX9_undo 85 = .ok (.aload_n 0, 1) := dk_42 (dk_at dksX9_undo_3 15 rfl rfl)
theorem dX9_undo_86 : decode cX9_undo 86 = .ok (.getfield 13, 3) := dk_180 0 13 (dk_at dksX9_undo_3 16 rfl rfl)
theorem dX9_undo_89 : decode cX9_undo 89 = .ok (.bipush 45, 2) := dk_16 45 (dk_at dksX9_undo_3 19 rfl rfl)
theorem dX9_undo_91 : decode cX9_undo 91 = .ok (.iaload, 1) := dk_46 (dk_at dksX9_undo_3 21 rfl rfl)
theorem dX9_undo_92 : decode cX9_undo 92 = .ok (.ireturn, 1) := dk_172 (dk_at dksX9_undo_3 22 rfl rfl)
def dkwX9_judge_4 : List UInt8 := [42, 180, 1, 41, 167, 0, 15, 28, 5, 160, 0, 8, 21, 5, 167, 0, 5, 21, 6, 172]
abbrev dktX9_judge_4 : List UInt8 := dkwX9_judge_4 ++ []
def dkwX9_judge_3 : List UInt8 := [154, 0, 19, 42, 180, 1, 41, 154, 0, 7, 2, 167, 0, 32, 21, 4, 167, 0, 27, 28, 4, 160, 0, 10]
abbrev dktX9_judge_3 : List UInt8 := dkwX9_judge_3 ++ dktX9_judge_4
def dkwX9_judge_2 : List UInt8 := [180, 0, 13, 16, 28, 46, 54, 5, 42, 180, 0, 13, 16, 26, 46, 54, 6, 42, 182, 1, 59, 28]
abbrev dktX9_judge_2 : List UInt8 := dkwX9_judge_2 ++ dktX9_judge_3
def dkwX9_judge_1 : List UInt8 := [182, 1, 53, 62, 29, 153, 0, 5, 29, 172, 42, 182, 1, 12, 42, 27, 182, 1, 56, 54, 4, 42]
abbrev dktX9_judge_1 : List UInt8 := dkwX9_judge_1 ++ dktX9_judge_2
def dkwX9_judge_0 : List UInt8 := [42, 3, 181, 0, 1, 28, 133, 9, 20, 1, 51, 184, 0, 157, 154, 0, 6, 16, 254, 172, 42, 27]
abbrev dktX9_judge_0 : List UInt8 := dkwX9_judge_0 ++ dktX9_judge_1
theorem dksX9_judge_0 : cX9_judge.data.toList.drop 0 = dktX9_judge_0 := by decide +kernel
theorem dksX9_judge_1 : cX9_judge.data.toList.drop 22 = dktX9_judge_1 := dk_seg dksX9_judge_0 22 rfl rfl
theorem dksX9_judge_2 : cX9_judge.data.toList.drop 44 = dktX9_judge_2 := dk_seg dksX9_judge_1 22 rfl rfl
theorem dksX9_judge_3 : cX9_judge.data.toList.drop 66 = dktX9_judge_3 := dk_seg dksX9_judge_2 22 rfl rfl
theorem dksX9_judge_4 : cX9_judge.data.toList.drop 90 = dktX9_judge_4 := dk_seg dksX9_judge_3 24 rfl rfl
theorem dX9_judge_0 : decode cX9_judge 0 = .ok (.aload_n 0, 1) := dk_42 (dk_at dksX9_judge_0 0 rfl rfl)
theorem dX9_judge_1 : decode cX9_judge 1 = .ok (.iconst 0, 1) := dk_3 (dk_at dksX9_judge_0 1 rfl rfl)
theorem dX9_judge_2 : decode cX9_judge 2 = .ok (.putfield 1, 3) := dk_181 0 1 (dk_at dksX9_judge_0 2 rfl rfl)
theorem dX9_judge_5 : decode cX9_judge 5 = .ok (.iload_n 2, 1) := dk_28 (dk_at dksX9_judge_0 5 rfl rfl)
theorem dX9_judge_6 : decode cX9_judge 6 = .ok (.i2l, 1) := dk_133 (dk_at dksX9_judge_0 6 rfl rfl)
theorem dX9_judge_7 : decode cX9_judge 7 = .ok (.lconst 0, 1) := dk_9 (dk_at dksX9_judge_0 7 rfl rfl)
theorem dX9_judge_8 : decode cX9_judge 8 = .ok (.ldc2_w 307, 3) := dk_20 1 51 (dk_at dksX9_judge_0 8 rfl rfl)
theorem dX9_judge_11 : decode cX9_judge 11 = .ok (.invokestatic 157, 3) := dk_184 0 157 (dk_at dksX9_judge_0 11 rfl rfl)
theorem dX9_judge_14 : decode cX9_judge 14 = .ok (.ifCond .ne 6, 3) := dk_154 0 6 (dk_at dksX9_judge_0 14 rfl rfl)
theorem dX9_judge_17 : decode cX9_judge 17 = .ok (.bipush (-2), 2) := dk_16 254 (dk_at dksX9_judge_0 17 rfl rfl)
theorem dX9_judge_19 : decode cX9_judge 19 = .ok (.ireturn, 1) := dk_172 (dk_at dksX9_judge_0 19 rfl rfl)
theorem dX9_judge_20 : decode cX9_judge 20 = .ok (.aload_n 0, 1) := dk_42 (dk_at dksX9_judge_0 20 rfl rfl)
theorem dX9_judge_21 : decode cX9_judge 21 = .ok (.iload_n 1, 1) := dk_27 (dk_at dksX9_judge_0 21 rfl rfl)
theorem dX9_judge_22 : decode cX9_judge 22 = .ok (.invokevirtual 309, 3) := dk_182 1 53 (dk_at dksX9_judge_1 0 rfl rfl)
theorem dX9_judge_25 : decode cX9_judge 25 = .ok (.istore_n 3, 1) := dk_62 (dk_at dksX9_judge_1 3 rfl rfl)
theorem dX9_judge_26 : decode cX9_judge 26 = .ok (.iload_n 3, 1) := dk_29 (dk_at dksX9_judge_1 4 rfl rfl)
theorem dX9_judge_27 : decode cX9_judge 27 = .ok (.ifCond .eq 5, 3) := dk_153 0 5 (dk_at dksX9_judge_1 5 rfl rfl)
theorem dX9_judge_30 : decode cX9_judge 30 = .ok (.iload_n 3, 1) := dk_29 (dk_at dksX9_judge_1 8 rfl rfl)
theorem dX9_judge_31 : decode cX9_judge 31 = .ok (.ireturn, 1) := dk_172 (dk_at dksX9_judge_1 9 rfl rfl)
theorem dX9_judge_32 : decode cX9_judge 32 = .ok (.aload_n 0, 1) := dk_42 (dk_at dksX9_judge_1 10 rfl rfl)
theorem dX9_judge_33 : decode cX9_judge 33 = .ok (.invokevirtual 268, 3) := dk_182 1 12 (dk_at dksX9_judge_1 11 rfl rfl)
theorem dX9_judge_36 : decode cX9_judge 36 = .ok (.aload_n 0, 1) := dk_42 (dk_at dksX9_judge_1 14 rfl rfl)
theorem dX9_judge_37 : decode cX9_judge 37 = .ok (.iload_n 1, 1) := dk_27 (dk_at dksX9_judge_1 15 rfl rfl)
theorem dX9_judge_38 : decode cX9_judge 38 = .ok (.invokevirtual 312, 3) := dk_182 1 56 (dk_at dksX9_judge_1 16 rfl rfl)
theorem dX9_judge_41 : decode cX9_judge 41 = .ok (.istore 4, 2) := dk_54 4 (dk_at dksX9_judge_1 19 rfl rfl)
theorem dX9_judge_43 : decode cX9_judge 43 = .ok (.aload_n 0, 1) := dk_42 (dk_at dksX9_judge_1 21 rfl rfl)
theorem dX9_judge_44 : decode cX9_judge 44 = .ok (.getfield 13, 3) := dk_180 0 13 (dk_at dksX9_judge_2 0 rfl rfl)
theorem dX9_judge_47 : decode cX9_judge 47 = .ok (.bipush 28, 2) := dk_16 28 (dk_at dksX9_judge_2 3 rfl rfl)
theorem dX9_judge_49 : decode cX9_judge 49 = .ok (.iaload, 1) := dk_46 (dk_at dksX9_judge_2 5 rfl rfl)
theorem dX9_judge_50 : decode cX9_judge 50 = .ok (.istore 5, 2) := dk_54 5 (dk_at dksX9_judge_2 6 rfl rfl)
theorem dX9_judge_52 : decode cX9_judge 52 = .ok (.aload_n 0, 1) := dk_42 (dk_at dksX9_judge_2 8 rfl rfl)
theorem dX9_judge_53 : decode cX9_judge 53 = .ok (.getfield 13, 3) := dk_180 0 13 (dk_at dksX9_judge_2 9 rfl rfl)
theorem dX9_judge_56 : decode cX9_judge 56 = .ok (.bipush 26, 2) := dk_16 26 (dk_at dksX9_judge_2 12 rfl rfl)
theorem dX9_judge_58 : decode cX9_judge 58 = .ok (.iaload, 1) := dk_46 (dk_at dksX9_judge_2 14 rfl rfl)
theorem dX9_judge_59 : decode cX9_judge 59 = .ok (.istore 6, 2) := dk_54 6 (dk_at dksX9_judge_2 15 rfl rfl)
theorem dX9_judge_61 : decode cX9_judge 61 = .ok (.aload_n 0, 1) := dk_42 (dk_at dksX9_judge_2 17 rfl rfl)
theorem dX9_judge_62 : decode cX9_judge 62 = .ok (.invokevirtual 315, 3) := dk_182 1 59 (dk_at dksX9_judge_2 18 rfl rfl)
theorem dX9_judge_65 : decode cX9_judge 65 = .ok (.iload_n 2, 1) := dk_28 (dk_at dksX9_judge_2 21 rfl rfl)
theorem dX9_judge_66 : decode cX9_judge 66 = .ok (.ifCond .ne 19, 3) := dk_154 0 19 (dk_at dksX9_judge_3 0 rfl rfl)
theorem dX9_judge_69 : decode cX9_judge 69 = .ok (.aload_n 0, 1) := dk_42 (dk_at dksX9_judge_3 3 rfl rfl)
theorem dX9_judge_70 : decode cX9_judge 70 = .ok (.getfield 297, 3) := dk_180 1 41 (dk_at dksX9_judge_3 4 rfl rfl)
theorem dX9_judge_73 : decode cX9_judge 73 = .ok (.ifCond .ne 7, 3) := dk_154 0 7 (dk_at dksX9_judge_3 7 rfl rfl)
theorem dX9_judge_76 : decode cX9_judge 76 = .ok (.iconst (-1), 1) := dk_2 (dk_at dksX9_judge_3 10 rfl rfl)
theorem dX9_judge_77 : decode cX9_judge 77 = .ok (.goto 32, 3) := dk_167 0 32 (dk_at dksX9_judge_3 11 rfl rfl)
theorem dX9_judge_80 : decode cX9_judge 80 = .ok (.iload 4, 2) := dk_21 4 (dk_at dksX9_judge_3 14 rfl rfl)
theorem dX9_judge_82 : decode cX9_judge 82 = .ok (.goto 27, 3) := dk_167 0 27 (dk_at dksX9_judge_3 16 rfl rfl)
theorem dX9_judge_85 : decode cX9_judge 85 = .ok (.iload_n 2, 1) := dk_28 (dk_at dksX9_judge_3 19 rfl rfl)
theorem dX9_judge_86 : decode cX9_judge 86 = .ok (.iconst 1, 1) := dk_4 (dk_at dksX9_judge_3 20 rfl rfl)
theorem dX9_judge_87 : decode cX9_judge 87 = .ok (.if_icmp .ne 10, 3) := dk_160 0 10 (dk_at dksX9_judge_3 21 rfl rfl)
theorem dX9_judge_90 : decode cX9_judge 90 = .ok (.aload_n 0, 1) := dk_42 (dk_at dksX9_judge_4 0 rfl rfl)
theorem dX9_judge_91 : decode cX9_judge 91 = .ok (.getfield 297, 3) := dk_180 1 41 (dk_at dksX9_judge_4 1 rfl rfl)
theorem dX9_judge_94 : decode cX9_judge 94 = .ok (.goto 15, 3) := dk_167 0 15 (dk_at dksX9_judge_4 4 rfl rfl)
theorem dX9_judge_97 : decode cX9_judge 97 = .ok (.iload_n 2, 1) := dk_28 (dk_at dksX9_judge_4 7 rfl rfl)
theorem dX9_judge_98 : decode cX9_judge 98 = .ok (.iconst 2, 1) := dk_5 (dk_at dksX9_judge_4 8 rfl rfl)
theorem dX9_judge_99 : decode cX9_judge 99 = .ok (.if_icmp .ne 8, 3) := dk_160 0 8 (dk_at dksX9_judge_4 9 rfl rfl)
theorem dX9_judge_102 : decode cX9_judge 102 = .ok (.iload 5, 2) := dk_21 5 (dk_at dksX9_judge_4 12 rfl rfl)
theorem dX9_judge_104 : decode cX9_judge 104 = .ok (.goto 5, 3) := dk_167 0 5 (dk_at dksX9_judge_4 14 rfl rfl)
theorem dX9_judge_107 : decode cX9_judge 107 = .ok (.iload 6, 2) := dk_21 6 (dk_at dksX9_judge_4 17 rfl rfl)
theorem dX9_judge_109 : decode cX9_judge 109 = .ok (.ireturn, 1) := dk_172 (dk_at dksX9_judge_4 19 rfl rfl)
def dkwX9_noTray_1 : List UInt8 := [160, 0, 8, 16, 250, 167, 0, 4, 3, 172]
abbrev dktX9_noTray_1 : List UInt8 := dkwX9_noTray_1 ++ []
def dkwX9_noTray_0 : List UInt8 := [27, 133, 9, 20, 1, 51, 184, 0, 157, 154, 0, 8, 16, 254, 167, 0, 19, 42, 180, 0, 82, 27, 46, 2]
abbrev dktX9_noTray_0 : List UInt8 := dkwX9_noTray_0 ++ dktX9_noTray_1
theorem dksX9_noTray_0 : cX9_noTray.data.toList.drop 0 = dktX9_noTray_0 := by decide +kernel
theorem dksX9_noTray_1 : cX9_noTray.data.toList.drop 24 = dktX9_noTray_1 := dk_seg dksX9_noTray_0 24 rfl rfl
theorem dX9_noTray_0 : decode cX9_noTray 0 = .ok (.iload_n 1, 1) := dk_27 (dk_at dksX9_noTray_0 0 rfl rfl)
theorem dX9_noTray_1 : decode cX9_noTray 1 = .ok (.i2l, 1) := dk_133 (dk_at dksX9_noTray_0 1 rfl rfl)
theorem dX9_noTray_2 : decode cX9_noTray 2 = .ok (.lconst 0, 1) := dk_9 (dk_at dksX9_noTray_0 2 rfl rfl)
theorem dX9_noTray_3 : decode cX9_noTray 3 = .ok (.ldc2_w 307, 3) := dk_20 1 51 (dk_at dksX9_noTray_0 3 rfl rfl)
theorem dX9_noTray_6 : decode cX9_noTray 6 = .ok (.invokestatic 157, 3) := dk_184 0 157 (dk_at dksX9_noTray_0 6 rfl rfl)
theorem dX9_noTray_9 : decode cX9_noTray 9 = .ok (.ifCond .ne 8, 3) := dk_154 0 8 (dk_at dksX9_noTray_0 9 rfl rfl)
theorem dX9_noTray_12 : decode cX9_noTray 12 = .ok (.bipush (-2), 2) := dk_16 254 (dk_at dksX9_noTray_0 12 rfl rfl)
theorem dX9_noTray_14 : decode cX9_noTray 14 = .ok (.goto 19, 3) := dk_167 0 19 (dk_at dksX9_noTray_0 14 rfl rfl)
theorem dX9_noTray_17 : decode cX9_noTray 17 = .ok (.aload_n 0, 1) := dk_42 (dk_at dksX9_noTray_0 17 rfl rfl)
theorem dX9_noTray_18 : decode cX9_noTray 18 = .ok (.getfield 82, 3) := dk_180 0 82 (dk_at dksX9_noTray_0 18 rfl rfl)
theorem dX9_noTray_21 : decode cX9_noTray 21 = .ok (.iload_n 1, 1) := dk_27 (dk_at dksX9_noTray_0 21 rfl rfl)
theorem dX9_noTray_22 : decode cX9_noTray 22 = .ok (.iaload, 1) := dk_46 (dk_at dksX9_noTray_0 22 rfl rfl)
theorem dX9_noTray_23 : decode cX9_noTray 23 = .ok (.iconst (-1), 1) := dk_2 (dk_at dksX9_noTray_0 23 rfl rfl)
theorem dX9_noTray_24 : decode cX9_noTray 24 = .ok (.if_icmp .ne 8, 3) := dk_160 0 8 (dk_at dksX9_noTray_1 0 rfl rfl)
theorem dX9_noTray_27 : decode cX9_noTray 27 = .ok (.bipush (-6), 2) := dk_16 250 (dk_at dksX9_noTray_1 3 rfl rfl)
theorem dX9_noTray_29 : decode cX9_noTray 29 = .ok (.goto 4, 3) := dk_167 0 4 (dk_at dksX9_noTray_1 5 rfl rfl)
theorem dX9_noTray_32 : decode cX9_noTray 32 = .ok (.iconst 0, 1) := dk_3 (dk_at dksX9_noTray_1 8 rfl rfl)
theorem dX9_noTray_33 : decode cX9_noTray 33 = .ok (.ireturn, 1) := dk_172 (dk_at dksX9_noTray_1 9 rfl rfl)
def dkwX9_tells_3 : List UInt8 := [27, 46, 172]
abbrev dktX9_tells_3 : List UInt8 := dkwX9_tells_3 ++ []
def dkwX9_tells_2 : List UInt8 := [180, 0, 88, 16, 40, 27, 104, 28, 96, 47, 136, 182, 1, 48, 132, 2, 1, 167, 255, 199, 42, 180, 0, 85]
abbrev dktX9_tells_2 : List UInt8 := dkwX9_tells_2 ++ dktX9_tells_3
def dkwX9_tells_1 : List UInt8 := [16, 40, 27, 104, 28, 96, 47, 182, 1, 44, 181, 1, 41, 42, 180, 1, 41, 153, 0, 5, 28, 172, 42, 42]
abbrev dktX9_tells_1 : List UInt8 := dkwX9_tells_1 ++ dktX9_tells_2
def dkwX9_tells_0 : List UInt8 := [42, 3, 181, 1, 41, 3, 61, 28, 42, 180, 0, 85, 27, 46, 162, 0, 53, 42, 42, 42, 180, 0, 88]
abbrev dktX9_tells_0 : List UInt8 := dkwX9_tells_0 ++ dktX9_tells_1
theorem dksX9_tells_0 : cX9_tells.data.toList.drop 0 = dktX9_tells_0 := by decide +kernel
theorem dksX9_tells_1 : cX9_tells.data.toList.drop 23 = dktX9_tells_1 := dk_seg dksX9_tells_0 23 rfl rfl
theorem dksX9_tells_2 : cX9_tells.data.toList.drop 47 = dktX9_tells_2 := dk_seg dksX9_tells_1 24 rfl rfl
theorem dksX9_tells_3 : cX9_tells.data.toList.drop 71 = dktX9_tells_3 := dk_seg dksX9_tells_2 24 rfl rfl
theorem dX9_tells_0 : decode cX9_tells 0 = .ok (.aload_n 0, 1) := dk_42 (dk_at dksX9_tells_0 0 rfl rfl)
theorem dX9_tells_1 : decode cX9_tells 1 = .ok (.iconst 0, 1) := dk_3 (dk_at dksX9_tells_0 1 rfl rfl)
theorem dX9_tells_2 : decode cX9_tells 2 = .ok (.putfield 297, 3) := dk_181 1 41 (dk_at dksX9_tells_0 2 rfl rfl)
theorem dX9_tells_5 : decode cX9_tells 5 = .ok (.iconst 0, 1) := dk_3 (dk_at dksX9_tells_0 5 rfl rfl)
theorem dX9_tells_6 : decode cX9_tells 6 = .ok (.istore_n 2, 1) := dk_61 (dk_at dksX9_tells_0 6 rfl rfl)
theorem dX9_tells_7 : decode cX9_tells 7 = .ok (.iload_n 2, 1) := dk_28 (dk_at dksX9_tells_0 7 rfl rfl)
theorem dX9_tells_8 : decode cX9_tells 8 = .ok (.aload_n 0, 1) := dk_42 (dk_at dksX9_tells_0 8 rfl rfl)
theorem dX9_tells_9 : decode cX9_tells 9 = .ok (.getfield 85, 3) := dk_180 0 85 (dk_at dksX9_tells_0 9 rfl rfl)
theorem dX9_tells_12 : decode cX9_tells 12 = .ok (.iload_n 1, 1) := dk_27 (dk_at dksX9_tells_0 12 rfl rfl)
theorem dX9_tells_13 : decode cX9_tells 13 = .ok (.iaload, 1) := dk_46 (dk_at dksX9_tells_0 13 rfl rfl)
theorem dX9_tells_14 : decode cX9_tells 14 = .ok (.if_icmp .ge 53, 3) := dk_162 0 53 (dk_at dksX9_tells_0 14 rfl rfl)
theorem dX9_tells_17 : decode cX9_tells 17 = .ok (.aload_n 0, 1) := dk_42 (dk_at dksX9_tells_0 17 rfl rfl)
theorem dX9_tells_18 : decode cX9_tells 18 = .ok (.aload_n 0, 1) := dk_42 (dk_at dksX9_tells_0 18 rfl rfl)
theorem dX9_tells_19 : decode cX9_tells 19 = .ok (.aload_n 0, 1) := dk_42 (dk_at dksX9_tells_0 19 rfl rfl)
theorem dX9_tells_20 : decode cX9_tells 20 = .ok (.getfield 88, 3) := dk_180 0 88 (dk_at dksX9_tells_0 20 rfl rfl)
theorem dX9_tells_23 : decode cX9_tells 23 = .ok (.bipush 40, 2) := dk_16 40 (dk_at dksX9_tells_1 0 rfl rfl)
theorem dX9_tells_25 : decode cX9_tells 25 = .ok (.iload_n 1, 1) := dk_27 (dk_at dksX9_tells_1 2 rfl rfl)
theorem dX9_tells_26 : decode cX9_tells 26 = .ok (.imul, 1) := dk_104 (dk_at dksX9_tells_1 3 rfl rfl)
theorem dX9_tells_27 : decode cX9_tells 27 = .ok (.iload_n 2, 1) := dk_28 (dk_at dksX9_tells_1 4 rfl rfl)
theorem dX9_tells_28 : decode cX9_tells 28 = .ok (.iadd, 1) := dk_96 (dk_at dksX9_tells_1 5 rfl rfl)
theorem dX9_tells_29 : decode cX9_tells 29 = .ok (.laload, 1) := dk_47 (dk_at dksX9_tells_1 6 rfl rfl)
theorem dX9_tells_30 : decode cX9_tells 30 = .ok (.invokevirtual 300, 3) := dk_182 1 44 (dk_at dksX9_tells_1 7 rfl rfl)
theorem dX9_tells_33 : decode cX9_tells 33 = .ok (.putfield 297, 3) := dk_181 1 41 (dk_at dksX9_tells_1 10 rfl rfl)
theorem dX9_tells_36 : decode cX9_tells 36 = .ok (.aload_n 0, 1) := dk_42 (dk_at dksX9_tells_1 13 rfl rfl)
theorem dX9_tells_37 : decode cX9_tells 37 = .ok (.getfield 297, 3) := dk_180 1 41 (dk_at dksX9_tells_1 14 rfl rfl)
theorem dX9_tells_40 : decode cX9_tells 40 = .ok (.ifCond .eq 5, 3) := dk_153 0 5 (dk_at dksX9_tells_1 17 rfl rfl)
theorem dX9_tells_43 : decode cX9_tells 43 = .ok (.iload_n 2, 1) := dk_28 (dk_at dksX9_tells_1 20 rfl rfl)
theorem dX9_tells_44 : decode cX9_tells 44 = .ok (.ireturn, 1) := dk_172 (dk_at dksX9_tells_1 21 rfl rfl)
theorem dX9_tells_45 : decode cX9_tells 45 = .ok (.aload_n 0, 1) := dk_42 (dk_at dksX9_tells_1 22 rfl rfl)
theorem dX9_tells_46 : decode cX9_tells 46 = .ok (.aload_n 0, 1) := dk_42 (dk_at dksX9_tells_1 23 rfl rfl)
theorem dX9_tells_47 : decode cX9_tells 47 = .ok (.getfield 88, 3) := dk_180 0 88 (dk_at dksX9_tells_2 0 rfl rfl)
theorem dX9_tells_50 : decode cX9_tells 50 = .ok (.bipush 40, 2) := dk_16 40 (dk_at dksX9_tells_2 3 rfl rfl)
theorem dX9_tells_52 : decode cX9_tells 52 = .ok (.iload_n 1, 1) := dk_27 (dk_at dksX9_tells_2 5 rfl rfl)
theorem dX9_tells_53 : decode cX9_tells 53 = .ok (.imul, 1) := dk_104 (dk_at dksX9_tells_2 6 rfl rfl)
theorem dX9_tells_54 : decode cX9_tells 54 = .ok (.iload_n 2, 1) := dk_28 (dk_at dksX9_tells_2 7 rfl rfl)
theorem dX9_tells_55 : decode cX9_tells 55 = .ok (.iadd, 1) := dk_96 (dk_at dksX9_tells_2 8 rfl rfl)
theorem dX9_tells_56 : decode cX9_tells 56 = .ok (.laload, 1) := dk_47 (dk_at dksX9_tells_2 9 rfl rfl)
theorem dX9_tells_57 : decode cX9_tells 57 = .ok (.l2i, 1) := dk_136 (dk_at dksX9_tells_2 10 rfl rfl)
theorem dX9_tells_58 : decode cX9_tells 58 = .ok (.invokevirtual 304, 3) := dk_182 1 48 (dk_at dksX9_tells_2 11 rfl rfl)
theorem dX9_tells_61 : decode cX9_tells 61 = .ok (.iinc 2 1, 3) := dk_132 2 1 (dk_at dksX9_tells_2 14 rfl rfl)
theorem dX9_tells_64 : decode cX9_tells 64 = .ok (.goto (-57), 3) := dk_167 255 199 (dk_at dksX9_tells_2 17 rfl rfl)
theorem dX9_tells_67 : decode cX9_tells 67 = .ok (.aload_n 0, 1) := dk_42 (dk_at dksX9_tells_2 20 rfl rfl)
theorem dX9_tells_68 : decode cX9_tells 68 = .ok (.getfield 85, 3) := dk_180 0 85 (dk_at dksX9_tells_2 21 rfl rfl)
theorem dX9_tells_71 : decode cX9_tells 71 = .ok (.iload_n 1, 1) := dk_27 (dk_at dksX9_tells_3 0 rfl rfl)
theorem dX9_tells_72 : decode cX9_tells 72 = .ok (.iaload, 1) := dk_46 (dk_at dksX9_tells_3 1 rfl rfl)
theorem dX9_tells_73 : decode cX9_tells 73 = .ok (.ireturn, 1) := dk_172 (dk_at dksX9_tells_3 2 rfl rfl)
def dkwX9_whyNot_4 : List UInt8 := [31, 20, 1, 27, 113, 42, 180, 0, 13, 4, 46, 133, 148, 156, 0, 7, 3, 167, 0, 4, 4, 172]
abbrev dktX9_whyNot_4 : List UInt8 := dkwX9_whyNot_4 ++ []
def dkwX9_whyNot_3 : List UInt8 := [180, 0, 13, 5, 46, 133, 148, 155, 0, 5, 4, 172, 31, 20, 1, 27, 113, 20, 1, 39, 148, 153, 0, 19]
abbrev dktX9_whyNot_3 : List UInt8 := dkwX9_whyNot_3 ++ dktX9_whyNot_4
def dkwX9_whyNot_2 : List UInt8 := [172, 31, 20, 1, 35, 20, 1, 37, 184, 0, 157, 153, 0, 23, 31, 20, 1, 35, 101, 20, 1, 27, 109, 42]
abbrev dktX9_whyNot_2 : List UInt8 := dkwX9_whyNot_2 ++ dktX9_whyNot_3
def dkwX9_whyNot_1 : List UInt8 := [9, 20, 1, 33, 184, 0, 157, 153, 0, 18, 42, 31, 20, 1, 27, 109, 31, 20, 1, 27, 113, 182, 1, 8]
abbrev dktX9_whyNot_1 : List UInt8 := dkwX9_whyNot_1 ++ dktX9_whyNot_2
def dkwX9_whyNot_0 : List UInt8 := [31, 20, 1, 18, 148, 153, 0, 16, 31, 20, 1, 29, 20, 1, 31, 184, 0, 157, 153, 0, 5, 3, 172, 31]
abbrev dktX9_whyNot_0 : List UInt8 := dkwX9_whyNot_0 ++ dktX9_whyNot_1
theorem dksX9_whyNot_0 : cX9_whyNot.data.toList.drop 0 = dktX9_whyNot_0 := by decide +kernel
theorem dksX9_whyNot_1 : cX9_whyNot.data.toList.drop 24 = dktX9_whyNot_1 := dk_seg dksX9_whyNot_0 24 rfl rfl
theorem dksX9_whyNot_2 : cX9_whyNot.data.toList.drop 48 = dktX9_whyNot_2 := dk_seg dksX9_whyNot_1 24 rfl rfl
theorem dksX9_whyNot_3 : cX9_whyNot.data.toList.drop 72 = dktX9_whyNot_3 := dk_seg dksX9_whyNot_2 24 rfl rfl
theorem dksX9_whyNot_4 : cX9_whyNot.data.toList.drop 96 = dktX9_whyNot_4 := dk_seg dksX9_whyNot_3 24 rfl rfl
theorem dX9_whyNot_0 : decode cX9_whyNot 0 = .ok (.lload_n 1, 1) := dk_31 (dk_at dksX9_whyNot_0 0 rfl rfl)
theorem dX9_whyNot_1 : decode cX9_whyNot 1 = .ok (.ldc2_w 274, 3) := dk_20 1 18 (dk_at dksX9_whyNot_0 1 rfl rfl)
theorem dX9_whyNot_4 : decode cX9_whyNot 4 = .ok (.lcmp, 1) := dk_148 (dk_at dksX9_whyNot_0 4 rfl rfl)
theorem dX9_whyNot_5 : decode cX9_whyNot 5 = .ok (.ifCond .eq 16, 3) := dk_153 0 16 (dk_at dksX9_whyNot_0 5 rfl rfl)
theorem dX9_whyNot_8 : decode cX9_whyNot 8 = .ok (.lload_n 1, 1) := dk_31 (dk_at dksX9_whyNot_0 8 rfl rfl)
theorem dX9_whyNot_9 : decode cX9_whyNot 9 = .ok (.ldc2_w 285, 3) := dk_20 1 29 (dk_at dksX9_whyNot_0 9 rfl rfl)
theorem dX9_whyNot_12 : decode cX9_whyNot 12 = .ok (.ldc2_w 287, 3) := dk_20 1 31 (dk_at dksX9_whyNot_0 12 rfl rfl)
theorem dX9_whyNot_15 : decode cX9_whyNot 15 = .ok (.invokestatic 157, 3) := dk_184 0 157 (dk_at dksX9_whyNot_0 15 rfl rfl)
theorem dX9_whyNot_18 : decode cX9_whyNot 18 = .ok (.ifCond .eq 5, 3) := dk_153 0 5 (dk_at dksX9_whyNot_0 18 rfl rfl)
theorem dX9_whyNot_21 : decode cX9_whyNot 21 = .ok (.iconst 0, 1) := dk_3 (dk_at dksX9_whyNot_0 21 rfl rfl)
theorem dX9_whyNot_22 : decode cX9_whyNot 22 = .ok (.ireturn, 1) := dk_172 (dk_at dksX9_whyNot_0 22 rfl rfl)
theorem dX9_whyNot_23 : decode cX9_whyNot 23 = .ok (.lload_n 1, 1) := dk_31 (dk_at dksX9_whyNot_0 23 rfl rfl)
theorem dX9_whyNot_24 : decode cX9_whyNot 24 = .ok (.lconst 0, 1) := dk_9 (dk_at dksX9_whyNot_1 0 rfl rfl)
theorem dX9_whyNot_25 : decode cX9_whyNot 25 = .ok (.ldc2_w 289, 3) := dk_20 1 33 (dk_at dksX9_whyNot_1 1 rfl rfl)
theorem dX9_whyNot_28 : decode cX9_whyNot 28 = .ok (.invokestatic 157, 3) := dk_184 0 157 (dk_at dksX9_whyNot_1 4 rfl rfl)
theorem dX9_whyNot_31 : decode cX9_whyNot 31 = .ok (.ifCond .eq 18, 3) := dk_153 0 18 (dk_at dksX9_whyNot_1 7 rfl rfl)
theorem dX9_whyNot_34 : decode cX9_whyNot 34 = .ok (.aload_n 0, 1) := dk_42 (dk_at dksX9_whyNot_1 10 rfl rfl)
theorem dX9_whyNot_35 : decode cX9_whyNot 35 = .ok (.lload_n 1, 1) := dk_31 (dk_at dksX9_whyNot_1 11 rfl rfl)
theorem dX9_whyNot_36 : decode cX9_whyNot 36 = .ok (.ldc2_w 283, 3) := dk_20 1 27 (dk_at dksX9_whyNot_1 12 rfl rfl)
theorem dX9_whyNot_39 : decode cX9_whyNot 39 = .ok (.ldiv, 1) := dk_109 (dk_at dksX9_whyNot_1 15 rfl rfl)
theorem dX9_whyNot_40 : decode cX9_whyNot 40 = .ok (.lload_n 1, 1) := dk_31 (dk_at dksX9_whyNot_1 16 rfl rfl)
theorem dX9_whyNot_41 : decode cX9_whyNot 41 = .ok (.ldc2_w 283, 3) := dk_20 1 27 (dk_at dksX9_whyNot_1 17 rfl rfl)
theorem dX9_whyNot_44 : decode cX9_whyNot 44 = .ok (.lrem, 1) := dk_113 (dk_at dksX9_whyNot_1 20 rfl rfl)
theorem dX9_whyNot_45 : decode cX9_whyNot 45 = .ok (.invokevirtual 264, 3) := dk_182 1 8 (dk_at dksX9_whyNot_1 21 rfl rfl)
theorem dX9_whyNot_48 : decode cX9_whyNot 48 = .ok (.ireturn, 1) := dk_172 (dk_at dksX9_whyNot_2 0 rfl rfl)
theorem dX9_whyNot_49 : decode cX9_whyNot 49 = .ok (.lload_n 1, 1) := dk_31 (dk_at dksX9_whyNot_2 1 rfl rfl)
theorem dX9_whyNot_50 : decode cX9_whyNot 50 = .ok (.ldc2_w 291, 3) := dk_20 1 35 (dk_at dksX9_whyNot_2 2 rfl rfl)
theorem dX9_whyNot_53 : decode cX9_whyNot 53 = .ok (.ldc2_w 293, 3) := dk_20 1 37 (dk_at dksX9_whyNot_2 5 rfl rfl)
theorem dX9_whyNot_56 : decode cX9_whyNot 56 = .ok (.invokestatic 157, 3) := dk_184 0 157 (dk_at dksX9_whyNot_2 8 rfl rfl)
theorem dX9_whyNot_59 : decode cX9_whyNot 59 = .ok (.ifCond .eq 23, 3) := dk_153 0 23 (dk_at dksX9_whyNot_2 11 rfl rfl)
theorem dX9_whyNot_62 : decode cX9_whyNot 62 = .ok (.lload_n 1, 1) := dk_31 (dk_at dksX9_whyNot_2 14 rfl rfl)
theorem dX9_whyNot_63 : decode cX9_whyNot 63 = .ok (.ldc2_w 291, 3) := dk_20 1 35 (dk_at dksX9_whyNot_2 15 rfl rfl)
theorem dX9_whyNot_66 : decode cX9_whyNot 66 = .ok (.lsub, 1) := dk_101 (dk_at dksX9_whyNot_2 18 rfl rfl)
theorem dX9_whyNot_67 : decode cX9_whyNot 67 = .ok (.ldc2_w 283, 3) := dk_20 1 27 (dk_at dksX9_whyNot_2 19 rfl rfl)
theorem dX9_whyNot_70 : decode cX9_whyNot 70 = .ok (.ldiv, 1) := dk_109 (dk_at dksX9_whyNot_2 22 rfl rfl)
theorem dX9_whyNot_71 : decode cX9_whyNot 71 = .ok (.aload_n 0, 1) := dk_42 (dk_at dksX9_whyNot_2 23 rfl rfl)
theorem dX9_whyNot_72 : decode cX9_whyNot 72 = .ok (.getfield 13, 3) := dk_180 0 13 (dk_at dksX9_whyNot_3 0 rfl rfl)
theorem dX9_whyNot_75 : decode cX9_whyNot 75 = .ok (.iconst 2, 1) := dk_5 (dk_at dksX9_whyNot_3 3 rfl rfl)
theorem dX9_whyNot_76 : decode cX9_whyNot 76 = .ok (.iaload, 1) := dk_46 (dk_at dksX9_whyNot_3 4 rfl rfl)
theorem dX9_whyNot_77 : decode cX9_whyNot 77 = .ok (.i2l, 1) := dk_133 (dk_at dksX9_whyNot_3 5 rfl rfl)
theorem dX9_whyNot_78 : decode cX9_whyNot 78 = .ok (.lcmp, 1) := dk_148 (dk_at dksX9_whyNot_3 6 rfl rfl)
theorem dX9_whyNot_79 : decode cX9_whyNot 79 = .ok (.ifCond .lt 5, 3) := dk_155 0 5 (dk_at dksX9_whyNot_3 7 rfl rfl)
theorem dX9_whyNot_82 : decode cX9_whyNot 82 = .ok (.iconst 1, 1) := dk_4 (dk_at dksX9_whyNot_3 10 rfl rfl)
theorem dX9_whyNot_83 : decode cX9_whyNot 83 = .ok (.ireturn, 1) := dk_172 (dk_at dksX9_whyNot_3 11 rfl rfl)
theorem dX9_whyNot_84 : decode cX9_whyNot 84 = .ok (.lload_n 1, 1) := dk_31 (dk_at dksX9_whyNot_3 12 rfl rfl)
theorem dX9_whyNot_85 : decode cX9_whyNot 85 = .ok (.ldc2_w 283, 3) := dk_20 1 27 (dk_at dksX9_whyNot_3 13 rfl rfl)
theorem dX9_whyNot_88 : decode cX9_whyNot 88 = .ok (.lrem, 1) := dk_113 (dk_at dksX9_whyNot_3 16 rfl rfl)
theorem dX9_whyNot_89 : decode cX9_whyNot 89 = .ok (.ldc2_w 295, 3) := dk_20 1 39 (dk_at dksX9_whyNot_3 17 rfl rfl)
theorem dX9_whyNot_92 : decode cX9_whyNot 92 = .ok (.lcmp, 1) := dk_148 (dk_at dksX9_whyNot_3 20 rfl rfl)
theorem dX9_whyNot_93 : decode cX9_whyNot 93 = .ok (.ifCond .eq 19, 3) := dk_153 0 19 (dk_at dksX9_whyNot_3 21 rfl rfl)
theorem dX9_whyNot_96 : decode cX9_whyNot 96 = .ok (.lload_n 1, 1) := dk_31 (dk_at dksX9_whyNot_4 0 rfl rfl)
theorem dX9_whyNot_97 : decode cX9_whyNot 97 = .ok (.ldc2_w 283, 3) := dk_20 1 27 (dk_at dksX9_whyNot_4 1 rfl rfl)
theorem dX9_whyNot_100 : decode cX9_whyNot 100 = .ok (.lrem, 1) := dk_113 (dk_at dksX9_whyNot_4 4 rfl rfl)
theorem dX9_whyNot_101 : decode cX9_whyNot 101 = .ok (.aload_n 0, 1) := dk_42 (dk_at dksX9_whyNot_4 5 rfl rfl)
theorem dX9_whyNot_102 : decode cX9_whyNot 102 = .ok (.getfield 13, 3) := dk_180 0 13 (dk_at dksX9_whyNot_4 6 rfl rfl)
theorem dX9_whyNot_105 : decode cX9_whyNot 105 = .ok (.iconst 1, 1) := dk_4 (dk_at dksX9_whyNot_4 9 rfl rfl)
theorem dX9_whyNot_106 : decode cX9_whyNot 106 = .ok (.iaload, 1) := dk_46 (dk_at dksX9_whyNot_4 10 rfl rfl)
theorem dX9_whyNot_107 : decode cX9_whyNot 107 = .ok (.i2l, 1) := dk_133 (dk_at dksX9_whyNot_4 11 rfl rfl)
theorem dX9_whyNot_108 : decode cX9_whyNot 108 = .ok (.lcmp, 1) := dk_148 (dk_at dksX9_whyNot_4 12 rfl rfl)
theorem dX9_whyNot_109 : decode cX9_whyNot 109 = .ok (.ifCond .ge 7, 3) := dk_156 0 7 (dk_at dksX9_whyNot_4 13 rfl rfl)
theorem dX9_whyNot_112 : decode cX9_whyNot 112 = .ok (.iconst 0, 1) := dk_3 (dk_at dksX9_whyNot_4 16 rfl rfl)
theorem dX9_whyNot_113 : decode cX9_whyNot 113 = .ok (.goto 4, 3) := dk_167 0 4 (dk_at dksX9_whyNot_4 17 rfl rfl)
theorem dX9_whyNot_116 : decode cX9_whyNot 116 = .ok (.iconst 1, 1) := dk_4 (dk_at dksX9_whyNot_4 20 rfl rfl)
theorem dX9_whyNot_117 : decode cX9_whyNot 117 = .ok (.ireturn, 1) := dk_172 (dk_at dksX9_whyNot_4 21 rfl rfl)
def dkwX9_does_3 : List UInt8 := [167, 0, 7, 27, 16, 10, 112, 79, 167, 0, 15, 42, 180, 0, 13, 16, 27, 27, 17, 0, 200, 100, 79, 177]
abbrev dktX9_does_3 : List UInt8 := dkwX9_does_3 ++ []
def dkwX9_does_2 : List UInt8 := [180, 0, 13, 16, 29, 27, 16, 100, 100, 16, 10, 108, 96, 27, 16, 10, 112, 16, 9, 160, 0, 7, 2]
abbrev dktX9_does_2 : List UInt8 := dkwX9_does_2 ++ dktX9_does_3
def dkwX9_does_1 : List UInt8 := [16, 40, 27, 16, 10, 108, 96, 27, 16, 10, 112, 79, 167, 0, 57, 27, 17, 0, 200, 162, 0, 38, 42]
abbrev dktX9_does_1 : List UInt8 := dkwX9_does_1 ++ dktX9_does_2
def dkwX9_does_0 : List UInt8 := [27, 2, 160, 0, 11, 42, 182, 1, 24, 87, 167, 0, 82, 27, 16, 50, 162, 0, 22, 42, 180, 0, 13]
abbrev dktX9_does_0 : List UInt8 := dkwX9_does_0 ++ dktX9_does_1
theorem dksX9_does_0 : cX9_does.data.toList.drop 0 = dktX9_does_0 := by decide +kernel
theorem dksX9_does_1 : cX9_does.data.toList.drop 23 = dktX9_does_1 := dk_seg dksX9_does_0 23 rfl rfl
theorem dksX9_does_2 : cX9_does.data.toList.drop 46 = dktX9_does_2 := dk_seg dksX9_does_1 23 rfl rfl
theorem dksX9_does_3 : cX9_does.data.toList.drop 69 = dktX9_does_3 := dk_seg dksX9_does_2 23 rfl rfl
theorem dX9_does_0 : decode cX9_does 0 = .ok (.iload_n 1, 1) := dk_27 (dk_at dksX9_does_0 0 rfl rfl)
theorem dX9_does_1 : decode cX9_does 1 = .ok (.iconst (-1), 1) := dk_2 (dk_at dksX9_does_0 1 rfl rfl)
theorem dX9_does_2 : decode cX9_does 2 = .ok (.if_icmp .ne 11, 3) := dk_160 0 11 (dk_at dksX9_does_0 2 rfl rfl)
theorem dX9_does_5 : decode cX9_does 5 = .ok (.aload_n 0, 1) := dk_42 (dk_at dksX9_does_0 5 rfl rfl)
theorem dX9_does_6 : decode cX9_does 6 = .ok (.invokevirtual 280, 3) := dk_182 1 24 (dk_at dksX9_does_0 6 rfl rfl)
theorem dX9_does_9 : decode cX9_does 9 = .ok (.pop, 1) := dk_87 (dk_at dksX9_does_0 9 rfl rfl)
theorem dX9_does_10 : decode cX9_does 10 = .ok (.goto 82, 3) := dk_167 0 82 (dk_at dksX9_does_0 10 rfl rfl)
theorem dX9_does_13 : decode cX9_does 13 = .ok (.iload_n 1, 1) := dk_27 (dk_at dksX9_does_0 13 rfl rfl)
theorem dX9_does_14 : decode cX9_does 14 = .ok (.bipush 50, 2) := dk_16 50 (dk_at dksX9_does_0 14 rfl rfl)
theorem dX9_does_16 : decode cX9_does 16 = .ok (.if_icmp .ge 22, 3) := dk_162 0 22 (dk_at dksX9_does_0 16 rfl rfl)
theorem dX9_does_19 : decode cX9_does 19 = .ok (.aload_n 0, 1) := dk_42 (dk_at dksX9_does_0 19 rfl rfl)
theorem dX9_does_20 : decode cX9_does 20 = .ok (.getfield 13, 3) := dk_180 0 13 (dk_at dksX9_does_0 20 rfl rfl)
theorem dX9_does_23 : decode cX9_does 23 = .ok (.bipush 40, 2) := dk_16 40 (dk_at dksX9_does_1 0 rfl rfl)
theorem dX9_does_25 : decode cX9_does 25 = .ok (.iload_n 1, 1) := dk_27 (dk_at dksX9_does_1 2 rfl rfl)
theorem dX9_does_26 : decode cX9_does 26 = .ok (.bipush 10, 2) := dk_16 10 (dk_at dksX9_does_1 3 rfl rfl)
theorem dX9_does_28 : decode cX9_does 28 = .ok (.idiv, 1) := dk_108 (dk_at dksX9_does_1 5 rfl rfl)
theorem dX9_does_29 : decode cX9_does 29 = .ok (.iadd, 1) := dk_96 (dk_at dksX9_does_1 6 rfl rfl)
theorem dX9_does_30 : decode cX9_does 30 = .ok (.iload_n 1, 1) := dk_27 (dk_at dksX9_does_1 7 rfl rfl)
theorem dX9_does_31 : decode cX9_does 31 = .ok (.bipush 10, 2) := dk_16 10 (dk_at dksX9_does_1 8 rfl rfl)
theorem dX9_does_33 : decode cX9_does 33 = .ok (.irem, 1) := dk_112 (dk_at dksX9_does_1 10 rfl rfl)
theorem dX9_does_34 : decode cX9_does 34 = .ok (.iastore, 1) := dk_79 (dk_at dksX9_does_1 11 rfl rfl)
theorem dX9_does_35 : decode cX9_does 35 = .ok (.goto 57, 3) := dk_167 0 57 (dk_at dksX9_does_1 12 rfl rfl)
theorem dX9_does_38 : decode cX9_does 38 = .ok (.iload_n 1, 1) := dk_27 (dk_at dksX9_does_1 15 rfl rfl)
theorem dX9_does_39 : decode cX9_does 39 = .ok (.sipush 200, 3) := dk_17 0 200 (dk_at dksX9_does_1 16 rfl rfl)
theorem dX9_does_42 : decode cX9_does 42 = .ok (.if_icmp .ge 38, 3) := dk_162 0 38 (dk_at dksX9_does_1 19 rfl rfl)
theorem dX9_does_45 : decode cX9_does 45 = .ok (.aload_n 0, 1) := dk_42 (dk_at dksX9_does_1 22 rfl rfl)
theorem dX9_does_46 : decode cX9_does 46 = .ok (.getfield 13, 3) := dk_180 0 13 (dk_at dksX9_does_2 0 rfl rfl)
theorem dX9_does_49 : decode cX9_does 49 = .ok (.bipush 29, 2) := dk_16 29 (dk_at dksX9_does_2 3 rfl rfl)
theorem dX9_does_51 : decode cX9_does 51 = .ok (.iload_n 1, 1) := dk_27 (dk_at dksX9_does_2 5 rfl rfl)
theorem dX9_does_52 : decode cX9_does 52 = .ok (.bipush 100, 2) := dk_16 100 (dk_at dksX9_does_2 6 rfl rfl)
theorem dX9_does_54 : decode cX9_does 54 = .ok (.isub, 1) := dk_100 (dk_at dksX9_does_2 8 rfl rfl)
theorem dX9_does_55 : decode cX9_does 55 = .ok (.bipush 10, 2) := dk_16 10 (dk_at dksX9_does_2 9 rfl rfl)
theorem dX9_does_57 : decode cX9_does 57 = .ok (.idiv, 1) := dk_108 (dk_at dksX9_does_2 11 rfl rfl)
theorem dX9_does_58 : decode cX9_does 58 = .ok (.iadd, 1) := dk_96 (dk_at dksX9_does_2 12 rfl rfl)
theorem dX9_does_59 : decode cX9_does 59 = .ok (.iload_n 1, 1) := dk_27 (dk_at dksX9_does_2 13 rfl rfl)
theorem dX9_does_60 : decode cX9_does 60 = .ok (.bipush 10, 2) := dk_16 10 (dk_at dksX9_does_2 14 rfl rfl)
theorem dX9_does_62 : decode cX9_does 62 = .ok (.irem, 1) := dk_112 (dk_at dksX9_does_2 16 rfl rfl)
theorem dX9_does_63 : decode cX9_does 63 = .ok (.bipush 9, 2) := dk_16 9 (dk_at dksX9_does_2 17 rfl rfl)
theorem dX9_does_65 : decode cX9_does 65 = .ok (.if_icmp .ne 7, 3) := dk_160 0 7 (dk_at dksX9_does_2 19 rfl rfl)
theorem dX9_does_68 : decode cX9_does 68 = .ok (.iconst (-1), 1) := dk_2 (dk_at dksX9_does_2 22 rfl rfl)
theorem dX9_does_69 : decode cX9_does 69 = .ok (.goto 7, 3) := dk_167 0 7 (dk_at dksX9_does_3 0 rfl rfl)
theorem dX9_does_72 : decode cX9_does 72 = .ok (.iload_n 1, 1) := dk_27 (dk_at dksX9_does_3 3 rfl rfl)
theorem dX9_does_73 : decode cX9_does 73 = .ok (.bipush 10, 2) := dk_16 10 (dk_at dksX9_does_3 4 rfl rfl)
theorem dX9_does_75 : decode cX9_does 75 = .ok (.irem, 1) := dk_112 (dk_at dksX9_does_3 6 rfl rfl)
theorem dX9_does_76 : decode cX9_does 76 = .ok (.iastore, 1) := dk_79 (dk_at dksX9_does_3 7 rfl rfl)
theorem dX9_does_77 : decode cX9_does 77 = .ok (.goto 15, 3) := dk_167 0 15 (dk_at dksX9_does_3 8 rfl rfl)
theorem dX9_does_80 : decode cX9_does 80 = .ok (.aload_n 0, 1) := dk_42 (dk_at dksX9_does_3 11 rfl rfl)
theorem dX9_does_81 : decode cX9_does 81 = .ok (.getfield 13, 3) := dk_180 0 13 (dk_at dksX9_does_3 12 rfl rfl)
theorem dX9_does_84 : decode cX9_does 84 = .ok (.bipush 27, 2) := dk_16 27 (dk_at dksX9_does_3 15 rfl rfl)
theorem dX9_does_86 : decode cX9_does 86 = .ok (.iload_n 1, 1) := dk_27 (dk_at dksX9_does_3 17 rfl rfl)
theorem dX9_does_87 : decode cX9_does 87 = .ok (.sipush 200, 3) := dk_17 0 200 (dk_at dksX9_does_3 18 rfl rfl)
theorem dX9_does_90 : decode cX9_does 90 = .ok (.isub, 1) := dk_100 (dk_at dksX9_does_3 21 rfl rfl)
theorem dX9_does_91 : decode cX9_does 91 = .ok (.iastore, 1) := dk_79 (dk_at dksX9_does_3 22 rfl rfl)
theorem dX9_does_92 : decode cX9_does 92 = .ok (.return_, 1) := dk_177 (dk_at dksX9_does_3 23 rfl rfl)
def dkwX9_isAgain_1 : List UInt8 := [132, 1, 1, 167, 255, 232, 177]
abbrev dktX9_isAgain_1 : List UInt8 := dkwX9_isAgain_1 ++ []
def dkwX9_isAgain_0 : List UInt8 := [3, 60, 27, 16, 19, 162, 0, 24, 42, 180, 0, 13, 16, 26, 27, 96, 42, 180, 0, 36, 27, 46, 79]
abbrev dktX9_isAgain_0 : List UInt8 := dkwX9_isAgain_0 ++ dktX9_isAgain_1
theorem dksX9_isAgain_0 : cX9_isAgain.data.toList.drop 0 = dktX9_isAgain_0 := by decide +kernel
theorem dksX9_isAgain_1 : cX9_isAgain.data.toList.drop 23 = dktX9_isAgain_1 := dk_seg dksX9_isAgain_0 23 rfl rfl
theorem dX9_isAgain_0 : decode cX9_isAgain 0 = .ok (.iconst 0, 1) := dk_3 (dk_at dksX9_isAgain_0 0 rfl rfl)
theorem dX9_isAgain_1 : decode cX9_isAgain 1 = .ok (.istore_n 1, 1) := dk_60 (dk_at dksX9_isAgain_0 1 rfl rfl)
theorem dX9_isAgain_2 : decode cX9_isAgain 2 = .ok (.iload_n 1, 1) := dk_27 (dk_at dksX9_isAgain_0 2 rfl rfl)
theorem dX9_isAgain_3 : decode cX9_isAgain 3 = .ok (.bipush 19, 2) := dk_16 19 (dk_at dksX9_isAgain_0 3 rfl rfl)
theorem dX9_isAgain_5 : decode cX9_isAgain 5 = .ok (.if_icmp .ge 24, 3) := dk_162 0 24 (dk_at dksX9_isAgain_0 5 rfl rfl)
theorem dX9_isAgain_8 : decode cX9_isAgain 8 = .ok (.aload_n 0, 1) := dk_42 (dk_at dksX9_isAgain_0 8 rfl rfl)
theorem dX9_isAgain_9 : decode cX9_isAgain 9 = .ok (.getfield 13, 3) := dk_180 0 13 (dk_at dksX9_isAgain_0 9 rfl rfl)
theorem dX9_isAgain_12 : decode cX9_isAgain 12 = .ok (.bipush 26, 2) := dk_16 26 (dk_at dksX9_isAgain_0 12 rfl rfl)
theorem dX9_isAgain_14 : decode cX9_isAgain 14 = .ok (.iload_n 1, 1) := dk_27 (dk_at dksX9_isAgain_0 14 rfl rfl)
theorem dX9_isAgain_15 : decode cX9_isAgain 15 = .ok (.iadd, 1) := dk_96 (dk_at dksX9_isAgain_0 15 rfl rfl)
theorem dX9_isAgain_16 : decode cX9_isAgain 16 = .ok (.aload_n 0, 1) := dk_42 (dk_at dksX9_isAgain_0 16 rfl rfl)
theorem dX9_isAgain_17 : decode cX9_isAgain 17 = .ok (.getfield 36, 3) := dk_180 0 36 (dk_at dksX9_isAgain_0 17 rfl rfl)
theorem dX9_isAgain_20 : decode cX9_isAgain 20 = .ok (.iload_n 1, 1) := dk_27 (dk_at dksX9_isAgain_0 20 rfl rfl)
theorem dX9_isAgain_21 : decode cX9_isAgain 21 = .ok (.iaload, 1) := dk_46 (dk_at dksX9_isAgain_0 21 rfl rfl)
theorem dX9_isAgain_22 : decode cX9_isAgain 22 = .ok (.iastore, 1) := dk_79 (dk_at dksX9_isAgain_0 22 rfl rfl)
theorem dX9_isAgain_23 : decode cX9_isAgain 23 = .ok (.iinc 1 1, 3) := dk_132 1 1 (dk_at dksX9_isAgain_1 0 rfl rfl)
theorem dX9_isAgain_26 : decode cX9_isAgain 26 = .ok (.goto (-24), 3) := dk_167 255 232 (dk_at dksX9_isAgain_1 3 rfl rfl)
theorem dX9_isAgain_29 : decode cX9_isAgain 29 = .ok (.return_, 1) := dk_177 (dk_at dksX9_isAgain_1 6 rfl rfl)
def dkwX9_perform_1 : List UInt8 := [182, 1, 56, 62, 29, 158, 0, 7, 42, 182, 1, 15, 29, 172]
abbrev dktX9_perform_1 : List UInt8 := dkwX9_perform_1 ++ []
def dkwX9_perform_0 : List UInt8 := [42, 3, 181, 0, 1, 42, 27, 182, 1, 53, 61, 28, 153, 0, 5, 28, 172, 42, 182, 1, 12, 42, 27]
abbrev dktX9_perform_0 : List UInt8 := dkwX9_perform_0 ++ dktX9_perform_1
theorem dksX9_perform_0 : cX9_perform.data.toList.drop 0 = dktX9_perform_0 := by decide +kernel
theorem dksX9_perform_1 : cX9_perform.data.toList.drop 23 = dktX9_perform_1 := dk_seg dksX9_perform_0 23 rfl rfl
theorem dX9_perform_0 : decode cX9_perform 0 = .ok (.aload_n 0, 1) := dk_42 (dk_at dksX9_perform_0 0 rfl rfl)
theorem dX9_perform_1 : decode cX9_perform 1 = .ok (.iconst 0, 1) := dk_3 (dk_at dksX9_perform_0 1 rfl rfl)
theorem dX9_perform_2 : decode cX9_perform 2 = .ok (.putfield 1, 3) := dk_181 0 1 (dk_at dksX9_perform_0 2 rfl rfl)
theorem dX9_perform_5 : decode cX9_perform 5 = .ok (.aload_n 0, 1) := dk_42 (dk_at dksX9_perform_0 5 rfl rfl)
theorem dX9_perform_6 : decode cX9_perform 6 = .ok (.iload_n 1, 1) := dk_27 (dk_at dksX9_perform_0 6 rfl rfl)
theorem dX9_perform_7 : decode cX9_perform 7 = .ok (.invokevirtual 309, 3) := dk_182 1 53 (dk_at dksX9_perform_0 7 rfl rfl)
theorem dX9_perform_10 : decode cX9_perform 10 = .ok (.istore_n 2, 1) := dk_61 (dk_at dksX9_perform_0 10 rfl rfl)
theorem dX9_perform_11 : decode cX9_perform 11 = .ok (.iload_n 2, 1) := dk_28 (dk_at dksX9_perform_0 11 rfl rfl)
theorem dX9_perform_12 : decode cX9_perform 12 = .ok (.ifCond .eq 5, 3) := dk_153 0 5 (dk_at dksX9_perform_0 12 rfl rfl)
theorem dX9_perform_15 : decode cX9_perform 15 = .ok (.iload_n 2, 1) := dk_28 (dk_at dksX9_perform_0 15 rfl rfl)
theorem dX9_perform_16 : decode cX9_perform 16 = .ok (.ireturn, 1) := dk_172 (dk_at dksX9_perform_0 16 rfl rfl)
theorem dX9_perform_17 : decode cX9_perform 17 = .ok (.aload_n 0, 1) := dk_42 (dk_at dksX9_perform_0 17 rfl rfl)
theorem dX9_perform_18 : decode cX9_perform 18 = .ok (.invokevirtual 268, 3) := dk_182 1 12 (dk_at dksX9_perform_0 18 rfl rfl)
theorem dX9_perform_21 : decode cX9_perform 21 = .ok (.aload_n 0, 1) := dk_42 (dk_at dksX9_perform_0 21 rfl rfl)
theorem dX9_perform_22 : decode cX9_perform 22 = .ok (.iload_n 1, 1) := dk_27 (dk_at dksX9_perform_0 22 rfl rfl)
theorem dX9_perform_23 : decode cX9_perform 23 = .ok (.invokevirtual 312, 3) := dk_182 1 56 (dk_at dksX9_perform_1 0 rfl rfl)
theorem dX9_perform_26 : decode cX9_perform 26 = .ok (.istore_n 3, 1) := dk_62 (dk_at dksX9_perform_1 3 rfl rfl)
theorem dX9_perform_27 : decode cX9_perform 27 = .ok (.iload_n 3, 1) := dk_29 (dk_at dksX9_perform_1 4 rfl rfl)
theorem dX9_perform_28 : decode cX9_perform 28 = .ok (.ifCond .le 7, 3) := dk_158 0 7 (dk_at dksX9_perform_1 5 rfl rfl)
theorem dX9_perform_31 : decode cX9_perform 31 = .ok (.aload_n 0, 1) := dk_42 (dk_at dksX9_perform_1 8 rfl rfl)
theorem dX9_perform_32 : decode cX9_perform 32 = .ok (.invokevirtual 271, 3) := dk_182 1 15 (dk_at dksX9_perform_1 9 rfl rfl)
theorem dX9_perform_35 : decode cX9_perform 35 = .ok (.iload_n 3, 1) := dk_29 (dk_at dksX9_perform_1 12 rfl rfl)
theorem dX9_perform_36 : decode cX9_perform 36 = .ok (.ireturn, 1) := dk_172 (dk_at dksX9_perform_1 13 rfl rfl)
def dkwX9_year_3 : List UInt8 := [167, 255, 219, 29, 158, 0, 7, 42, 182, 1, 15, 29, 172]
abbrev dktX9_year_3 : List UInt8 := dkwX9_year_3 ++ []
def dkwX9_year_2 : List UInt8 := [21, 5, 133, 182, 1, 44, 153, 0, 6, 167, 0, 12, 42, 21, 5, 182, 1, 48, 132, 3, 1, 132, 4, 1]
abbrev dktX9_year_2 : List UInt8 := dkwX9_year_2 ++ dktX9_year_3
def dkwX9_year_1 : List UInt8 := [42, 27, 181, 1, 63, 3, 62, 3, 54, 4, 21, 4, 28, 162, 0, 37, 42, 182, 1, 71, 54, 5, 42]
abbrev dktX9_year_1 : List UInt8 := dkwX9_year_1 ++ dktX9_year_2
def dkwX9_year_0 : List UInt8 := [42, 3, 181, 0, 1, 28, 133, 10, 20, 1, 69, 184, 0, 157, 154, 0, 6, 16, 253, 172, 42, 182, 1, 12]
abbrev dktX9_year_0 : List UInt8 := dkwX9_year_0 ++ dktX9_year_1
theorem dksX9_year_0 : cX9_year.data.toList.drop 0 = dktX9_year_0 := by decide +kernel
theorem dksX9_year_1 : cX9_year.data.toList.drop 24 = dktX9_year_1 := dk_seg dksX9_year_0 24 rfl rfl
theorem dksX9_year_2 : cX9_year.data.toList.drop 47 = dktX9_year_2 := dk_seg dksX9_year_1 23 rfl rfl
theorem dksX9_year_3 : cX9_year.data.toList.drop 71 = dktX9_year_3 := dk_seg dksX9_year_2 24 rfl rfl
theorem dX9_year_0 : decode cX9_year 0 = .ok (.aload_n 0, 1) := dk_42 (dk_at dksX9_year_0 0 rfl rfl)
theorem dX9_year_1 : decode cX9_year 1 = .ok (.iconst 0, 1) := dk_3 (dk_at dksX9_year_0 1 rfl rfl)
theorem dX9_year_2 : decode cX9_year 2 = .ok (.putfield 1, 3) := dk_181 0 1 (dk_at dksX9_year_0 2 rfl rfl)
theorem dX9_year_5 : decode cX9_year 5 = .ok (.iload_n 2, 1) := dk_28 (dk_at dksX9_year_0 5 rfl rfl)
theorem dX9_year_6 : decode cX9_year 6 = .ok (.i2l, 1) := dk_133 (dk_at dksX9_year_0 6 rfl rfl)
theorem dX9_year_7 : decode cX9_year 7 = .ok (.lconst 1, 1) := dk_10 (dk_at dksX9_year_0 7 rfl rfl)
theorem dX9_year_8 : decode cX9_year 8 = .ok (.ldc2_w 325, 3) := dk_20 1 69 (dk_at dksX9_year_0 8 rfl rfl)
theorem dX9_year_11 : decode cX9_year 11 = .ok (.invokestatic 157, 3) := dk_184 0 157 (dk_at dksX9_year_0 11 rfl rfl)
theorem dX9_year_14 : decode cX9_year 14 = .ok (.ifCond .ne 6, 3) := dk_154 0 6 (dk_at dksX9_year_0 14 rfl rfl)
theorem dX9_year_17 : decode cX9_year 17 = .ok (.bipush (-3), 2) := dk_16 253 (dk_at dksX9_year_0 17 rfl rfl)
theorem dX9_year_19 : decode cX9_year 19 = .ok (.ireturn, 1) := dk_172 (dk_at dksX9_year_0 19 rfl rfl)
theorem dX9_year_20 : decode cX9_year 20 = .ok (.aload_n 0, 1) := dk_42 (dk_at dksX9_year_0 20 rfl rfl)
theorem dX9_year_21 : decode cX9_year 21 = .ok (.invokevirtual 268, 3) := dk_182 1 12 (dk_at dksX9_year_0 21 rfl rfl)
theorem dX9_year_24 : decode cX9_year 24 = .ok (.aload_n 0, 1) := dk_42 (dk_at dksX9_year_1 0 rfl rfl)
theorem dX9_year_25 : decode cX9_year 25 = .ok (.iload_n 1, 1) := dk_27 (dk_at dksX9_year_1 1 rfl rfl)
theorem dX9_year_26 : decode cX9_year 26 = .ok (.putfield 319, 3) := dk_181 1 63 (dk_at dksX9_year_1 2 rfl rfl)
theorem dX9_year_29 : decode cX9_year 29 = .ok (.iconst 0, 1) := dk_3 (dk_at dksX9_year_1 5 rfl rfl)
theorem dX9_year_30 : decode cX9_year 30 = .ok (.istore_n 3, 1) := dk_62 (dk_at dksX9_year_1 6 rfl rfl)
theorem dX9_year_31 : decode cX9_year 31 = .ok (.iconst 0, 1) := dk_3 (dk_at dksX9_year_1 7 rfl rfl)
theorem dX9_year_32 : decode cX9_year 32 = .ok (.istore 4, 2) := dk_54 4 (dk_at dksX9_year_1 8 rfl rfl)
theorem dX9_year_34 : decode cX9_year 34 = .ok (.iload 4, 2) := dk_21 4 (dk_at dksX9_year_1 10 rfl rfl)
theorem dX9_year_36 : decode cX9_year 36 = .ok (.iload_n 2, 1) := dk_28 (dk_at dksX9_year_1 12 rfl rfl)
theorem dX9_year_37 : decode cX9_year 37 = .ok (.if_icmp .ge 37, 3) := dk_162 0 37 (dk_at dksX9_year_1 13 rfl rfl)
theorem dX9_year_40 : decode cX9_year 40 = .ok (.aload_n 0, 1) := dk_42 (dk_at dksX9_year_1 16 rfl rfl)
theorem dX9_year_41 : decode cX9_year 41 = .ok (.invokevirtual 327, 3) := dk_182 1 71 (dk_at dksX9_year_1 17 rfl rfl)
theorem dX9_year_44 : decode cX9_year 44 = .ok (.istore 5, 2) := dk_54 5 (dk_at dksX9_year_1 20 rfl rfl)
theorem dX9_year_46 : decode cX9_year 46 = .ok (.aload_n 0, 1) := dk_42 (dk_at dksX9_year_1 22 rfl rfl)
theorem dX9_year_47 : decode cX9_year 47 = .ok (.iload 5, 2) := dk_21 5 (dk_at dksX9_year_2 0 rfl rfl)
theorem dX9_year_49 : decode cX9_year 49 = .ok (.i2l, 1) := dk_133 (dk_at dksX9_year_2 2 rfl rfl)
theorem dX9_year_50 : decode cX9_year 50 = .ok (.invokevirtual 300, 3) := dk_182 1 44 (dk_at dksX9_year_2 3 rfl rfl)
theorem dX9_year_53 : decode cX9_year 53 = .ok (.ifCond .eq 6, 3) := dk_153 0 6 (dk_at dksX9_year_2 6 rfl rfl)
theorem dX9_year_56 : decode cX9_year 56 = .ok (.goto 12, 3) := dk_167 0 12 (dk_at dksX9_year_2 9 rfl rfl)
theorem dX9_year_59 : decode cX9_year 59 = .ok (.aload_n 0, 1) := dk_42 (dk_at dksX9_year_2 12 rfl rfl)
theorem dX9_year_60 : decode cX9_year 60 = .ok (.iload 5, 2) := dk_21 5 (dk_at dksX9_year_2 13 rfl rfl)
theorem dX9_year_62 : decode cX9_year 62 = .ok (.invokevirtual 304, 3) := dk_182 1 48 (dk_at dksX9_year_2 15 rfl rfl)
theorem dX9_year_65 : decode cX9_year 65 = .ok (.iinc 3 1, 3) := dk_132 3 1 (dk_at dksX9_year_2 18 rfl rfl)
theorem dX9_year_68 : decode cX9_year 68 = .ok (.iinc 4 1, 3) := dk_132 4 1 (dk_at dksX9_year_2 21 rfl rfl)
theorem dX9_year_71 : decode cX9_year 71 = .ok (.goto (-37), 3) := dk_167 255 219 (dk_at dksX9_year_3 0 rfl rfl)
theorem dX9_year_74 : decode cX9_year 74 = .ok (.iload_n 3, 1) := dk_29 (dk_at dksX9_year_3 3 rfl rfl)
theorem dX9_year_75 : decode cX9_year 75 = .ok (.ifCond .le 7, 3) := dk_158 0 7 (dk_at dksX9_year_3 4 rfl rfl)
theorem dX9_year_78 : decode cX9_year 78 = .ok (.aload_n 0, 1) := dk_42 (dk_at dksX9_year_3 7 rfl rfl)
theorem dX9_year_79 : decode cX9_year 79 = .ok (.invokevirtual 271, 3) := dk_182 1 15 (dk_at dksX9_year_3 8 rfl rfl)
theorem dX9_year_82 : decode cX9_year 82 = .ok (.iload_n 3, 1) := dk_29 (dk_at dksX9_year_3 11 rfl rfl)
theorem dX9_year_83 : decode cX9_year 83 = .ok (.ireturn, 1) := dk_172 (dk_at dksX9_year_3 12 rfl rfl)
def dkwX9_drawn_2 : List UInt8 := [182, 1, 66, 61, 16, 10, 28, 104, 42, 16, 7, 182, 1, 66, 96, 172]
abbrev dktX9_drawn_2 : List UInt8 := dkwX9_drawn_2 ++ []
def dkwX9_drawn_1 : List UInt8 := [182, 1, 66, 96, 172, 42, 180, 0, 13, 6, 46, 154, 0, 6, 16, 247, 172, 42, 42, 180, 0, 13, 6, 46]
abbrev dktX9_drawn_1 : List UInt8 := dkwX9_drawn_1 ++ dktX9_drawn_2
def dkwX9_drawn_0 : List UInt8 := [42, 7, 182, 1, 66, 60, 27, 154, 0, 5, 2, 172, 27, 6, 160, 0, 13, 17, 0, 200, 42, 6]
abbrev dktX9_drawn_0 : List UInt8 := dkwX9_drawn_0 ++ dktX9_drawn_1
theorem dksX9_drawn_0 : cX9_drawn.data.toList.drop 0 = dktX9_drawn_0 := by decide +kernel
theorem dksX9_drawn_1 : cX9_drawn.data.toList.drop 22 = dktX9_drawn_1 := dk_seg dksX9_drawn_0 22 rfl rfl
theorem dksX9_drawn_2 : cX9_drawn.data.toList.drop 46 = dktX9_drawn_2 := dk_seg dksX9_drawn_1 24 rfl rfl
theorem dX9_drawn_0 : decode cX9_drawn 0 = .ok (.aload_n 0, 1) := dk_42 (dk_at dksX9_drawn_0 0 rfl rfl)
theorem dX9_drawn_1 : decode cX9_drawn 1 = .ok (.iconst 4, 1) := dk_7 (dk_at dksX9_drawn_0 1 rfl rfl)
theorem dX9_drawn_2 : decode cX9_drawn 2 = .ok (.invokevirtual 322, 3) := dk_182 1 66 (dk_at dksX9_drawn_0 2 rfl rfl)
theorem dX9_drawn_5 : decode cX9_drawn 5 = .ok (.istore_n 1, 1) := dk_60 (dk_at dksX9_drawn_0 5 rfl rfl)
theorem dX9_drawn_6 : decode cX9_drawn 6 = .ok (.iload_n 1, 1) := dk_27 (dk_at dksX9_drawn_0 6 rfl rfl)
theorem dX9_drawn_7 : decode cX9_drawn 7 = .ok (.ifCond .ne 5, 3) := dk_154 0 5 (dk_at dksX9_drawn_0 7 rfl rfl)
theorem dX9_drawn_10 : decode cX9_drawn 10 = .ok (.iconst (-1), 1) := dk_2 (dk_at dksX9_drawn_0 10 rfl rfl)
theorem dX9_drawn_11 : decode cX9_drawn 11 = .ok (.ireturn, 1) := dk_172 (dk_at dksX9_drawn_0 11 rfl rfl)
theorem dX9_drawn_12 : decode cX9_drawn 12 = .ok (.iload_n 1, 1) := dk_27 (dk_at dksX9_drawn_0 12 rfl rfl)
theorem dX9_drawn_13 : decode cX9_drawn 13 = .ok (.iconst 3, 1) := dk_6 (dk_at dksX9_drawn_0 13 rfl rfl)
theorem dX9_drawn_14 : decode cX9_drawn 14 = .ok (.if_icmp .ne 13, 3) := dk_160 0 13 (dk_at dksX9_drawn_0 14 rfl rfl)
theorem dX9_drawn_17 : decode cX9_drawn 17 = .ok (.sipush 200, 3) := dk_17 0 200 (dk_at dksX9_drawn_0 17 rfl rfl)
theorem dX9_drawn_20 : decode cX9_drawn 20 = .ok (.aload_n 0, 1) := dk_42 (dk_at dksX9_drawn_0 20 rfl rfl)
theorem dX9_drawn_21 : decode cX9_drawn 21 = .ok (.iconst 3, 1) := dk_6 (dk_at dksX9_drawn_0 21 rfl rfl)
theorem dX9_drawn_22 : decode cX9_drawn 22 = .ok (.invokevirtual 322, 3) := dk_182 1 66 (dk_at dksX9_drawn_1 0 rfl rfl)
theorem dX9_drawn_25 : decode cX9_drawn 25 = .ok (.iadd, 1) := dk_96 (dk_at dksX9_drawn_1 3 rfl rfl)
theorem dX9_drawn_26 : decode cX9_drawn 26 = .ok (.ireturn, 1) := dk_172 (dk_at dksX9_drawn_1 4 rfl rfl)
theorem dX9_drawn_27 : decode cX9_drawn 27 = .ok (.aload_n 0, 1) := dk_42 (dk_at dksX9_drawn_1 5 rfl rfl)
theorem dX9_drawn_28 : decode cX9_drawn 28 = .ok (.getfield 13, 3) := dk_180 0 13 (dk_at dksX9_drawn_1 6 rfl rfl)
theorem dX9_drawn_31 : decode cX9_drawn 31 = .ok (.iconst 3, 1) := dk_6 (dk_at dksX9_drawn_1 9 rfl rfl)
theorem dX9_drawn_32 : decode cX9_drawn 32 = .ok (.iaload, 1) := dk_46 (dk_at dksX9_drawn_1 10 rfl rfl)
theorem dX9_drawn_33 : decode cX9_drawn 33 = .ok (.ifCond .ne 6, 3) := dk_154 0 6 (dk_at dksX9_drawn_1 11 rfl rfl)
theorem dX9_drawn_36 : decode cX9_drawn 36 = .ok (.bipush (-9), 2) := dk_16 247 (dk_at dksX9_drawn_1 14 rfl rfl)
theorem dX9_drawn_38 : decode cX9_drawn 38 = .ok (.ireturn, 1) := dk_172 (dk_at dksX9_drawn_1 16 rfl rfl)
theorem dX9_drawn_39 : decode cX9_drawn 39 = .ok (.aload_n 0, 1) := dk_42 (dk_at dksX9_drawn_1 17 rfl rfl)
theorem dX9_drawn_40 : decode cX9_drawn 40 = .ok (.aload_n 0, 1) := dk_42 (dk_at dksX9_drawn_1 18 rfl rfl)
theorem dX9_drawn_41 : decode cX9_drawn 41 = .ok (.getfield 13, 3) := dk_180 0 13 (dk_at dksX9_drawn_1 19 rfl rfl)
theorem dX9_drawn_44 : decode cX9_drawn 44 = .ok (.iconst 3, 1) := dk_6 (dk_at dksX9_drawn_1 22 rfl rfl)
theorem dX9_drawn_45 : decode cX9_drawn 45 = .ok (.iaload, 1) := dk_46 (dk_at dksX9_drawn_1 23 rfl rfl)
theorem dX9_drawn_46 : decode cX9_drawn 46 = .ok (.invokevirtual 322, 3) := dk_182 1 66 (dk_at dksX9_drawn_2 0 rfl rfl)
theorem dX9_drawn_49 : decode cX9_drawn 49 = .ok (.istore_n 2, 1) := dk_61 (dk_at dksX9_drawn_2 3 rfl rfl)
theorem dX9_drawn_50 : decode cX9_drawn 50 = .ok (.bipush 10, 2) := dk_16 10 (dk_at dksX9_drawn_2 4 rfl rfl)
theorem dX9_drawn_52 : decode cX9_drawn 52 = .ok (.iload_n 2, 1) := dk_28 (dk_at dksX9_drawn_2 6 rfl rfl)
theorem dX9_drawn_53 : decode cX9_drawn 53 = .ok (.imul, 1) := dk_104 (dk_at dksX9_drawn_2 7 rfl rfl)
theorem dX9_drawn_54 : decode cX9_drawn 54 = .ok (.aload_n 0, 1) := dk_42 (dk_at dksX9_drawn_2 8 rfl rfl)
theorem dX9_drawn_55 : decode cX9_drawn 55 = .ok (.bipush 7, 2) := dk_16 7 (dk_at dksX9_drawn_2 9 rfl rfl)
theorem dX9_drawn_57 : decode cX9_drawn 57 = .ok (.invokevirtual 322, 3) := dk_182 1 66 (dk_at dksX9_drawn_2 11 rfl rfl)
theorem dX9_drawn_60 : decode cX9_drawn 60 = .ok (.iadd, 1) := dk_96 (dk_at dksX9_drawn_2 14 rfl rfl)
theorem dX9_drawn_61 : decode cX9_drawn 61 = .ok (.ireturn, 1) := dk_172 (dk_at dksX9_drawn_2 15 rfl rfl)
def dkwX9_draw_1 : List UInt8 := [112, 172]
abbrev dktX9_draw_1 : List UInt8 := dkwX9_draw_1 ++ []
def dkwX9_draw_0 : List UInt8 := [42, 19, 1, 62, 42, 180, 1, 63, 104, 17, 48, 57, 96, 181, 1, 63, 42, 180, 1, 63, 16, 16, 124, 27]
abbrev dktX9_draw_0 : List UInt8 := dkwX9_draw_0 ++ dktX9_draw_1
theorem dksX9_draw_0 : cX9_draw.data.toList.drop 0 = dktX9_draw_0 := by decide +kernel
theorem dksX9_draw_1 : cX9_draw.data.toList.drop 24 = dktX9_draw_1 := dk_seg dksX9_draw_0 24 rfl rfl
theorem dX9_draw_0 : decode cX9_draw 0 = .ok (.aload_n 0, 1) := dk_42 (dk_at dksX9_draw_0 0 rfl rfl)
theorem dX9_draw_1 : decode cX9_draw 1 = .ok (.ldc_w 318, 3) := dk_19 1 62 (dk_at dksX9_draw_0 1 rfl rfl)
theorem dX9_draw_4 : decode cX9_draw 4 = .ok (.aload_n 0, 1) := dk_42 (dk_at dksX9_draw_0 4 rfl rfl)
theorem dX9_draw_5 : decode cX9_draw 5 = .ok (.getfield 319, 3) := dk_180 1 63 (dk_at dksX9_draw_0 5 rfl rfl)
theorem dX9_draw_8 : decode cX9_draw 8 = .ok (.imul, 1) := dk_104 (dk_at dksX9_draw_0 8 rfl rfl)
theorem dX9_draw_9 : decode cX9_draw 9 = .ok (.sipush 12345, 3) := dk_17 48 57 (dk_at dksX9_draw_0 9 rfl rfl)
theorem dX9_draw_12 : decode cX9_draw 12 = .ok (.iadd, 1) := dk_96 (dk_at dksX9_draw_0 12 rfl rfl)
theorem dX9_draw_13 : decode cX9_draw 13 = .ok (.putfield 319, 3) := dk_181 1 63 (dk_at dksX9_draw_0 13 rfl rfl)
theorem dX9_draw_16 : decode cX9_draw 16 = .ok (.aload_n 0, 1) := dk_42 (dk_at dksX9_draw_0 16 rfl rfl)
theorem dX9_draw_17 : decode cX9_draw 17 = .ok (.getfield 319, 3) := dk_180 1 63 (dk_at dksX9_draw_0 17 rfl rfl)
theorem dX9_draw_20 : decode cX9_draw 20 = .ok (.bipush 16, 2) := dk_16 16 (dk_at dksX9_draw_0 20 rfl rfl)
theorem dX9_draw_22 : decode cX9_draw 22 = .ok (.iushr, 1) := dk_124 (dk_at dksX9_draw_0 22 rfl rfl)
theorem dX9_draw_23 : decode cX9_draw 23 = .ok (.iload_n 1, 1) := dk_27 (dk_at dksX9_draw_0 23 rfl rfl)
theorem dX9_draw_24 : decode cX9_draw 24 = .ok (.irem, 1) := dk_112 (dk_at dksX9_draw_1 0 rfl rfl)
theorem dX9_draw_25 : decode cX9_draw 25 = .ok (.ireturn, 1) := dk_172 (dk_at dksX9_draw_1 1 rfl rfl)
def dkwX9_soonest_1 : List UInt8 := [27, 28, 182, 1, 86, 167, 0, 5, 16, 254, 172]
abbrev dktX9_soonest_1 : List UInt8 := dkwX9_soonest_1 ++ []
def dkwX9_soonest_0 : List UInt8 := [42, 3, 181, 0, 1, 42, 27, 133, 182, 0, 245, 153, 0, 21, 42, 28, 133, 182, 1, 83, 153, 0, 12, 42]
abbrev dktX9_soonest_0 : List UInt8 := dkwX9_soonest_0 ++ dktX9_soonest_1
theorem dksX9_soonest_0 : cX9_soonest.data.toList.drop 0 = dktX9_soonest_0 := by decide +kernel
theorem dksX9_soonest_1 : cX9_soonest.data.toList.drop 24 = dktX9_soonest_1 := dk_seg dksX9_soonest_0 24 rfl rfl
theorem dX9_soonest_0 : decode cX9_soonest 0 = .ok (.aload_n 0, 1) := dk_42 (dk_at dksX9_soonest_0 0 rfl rfl)
theorem dX9_soonest_1 : decode cX9_soonest 1 = .ok (.iconst 0, 1) := dk_3 (dk_at dksX9_soonest_0 1 rfl rfl)
theorem dX9_soonest_2 : decode cX9_soonest 2 = .ok (.putfield 1, 3) := dk_181 0 1 (dk_at dksX9_soonest_0 2 rfl rfl)
theorem dX9_soonest_5 : decode cX9_soonest 5 = .ok (.aload_n 0, 1) := dk_42 (dk_at dksX9_soonest_0 5 rfl rfl)
theorem dX9_soonest_6 : decode cX9_soonest 6 = .ok (.iload_n 1, 1) := dk_27 (dk_at dksX9_soonest_0 6 rfl rfl)
theorem dX9_soonest_7 : decode cX9_soonest 7 = .ok (.i2l, 1) := dk_133 (dk_at dksX9_soonest_0 7 rfl rfl)
theorem dX9_soonest_8 : decode cX9_soonest 8 = .ok (.invokevirtual 245, 3) := dk_182 0 245 (dk_at dksX9_soonest_0 8 rfl rfl)
theorem dX9_soonest_11 : decode cX9_soonest 11 = .ok (.ifCond .eq 21, 3) := dk_153 0 21 (dk_at dksX9_soonest_0 11 rfl rfl)
theorem dX9_soonest_14 : decode cX9_soonest 14 = .ok (.aload_n 0, 1) := dk_42 (dk_at dksX9_soonest_0 14 rfl rfl)
theorem dX9_soonest_15 : decode cX9_soonest 15 = .ok (.iload_n 2, 1) := dk_28 (dk_at dksX9_soonest_0 15 rfl rfl)
theorem dX9_soonest_16 : decode cX9_soonest 16 = .ok (.i2l, 1) := dk_133 (dk_at dksX9_soonest_0 16 rfl rfl)
theorem dX9_soonest_17 : decode cX9_soonest 17 = .ok (.invokevirtual 339, 3) := dk_182 1 83 (dk_at dksX9_soonest_0 17 rfl rfl)
theorem dX9_soonest_20 : decode cX9_soonest 20 = .ok (.ifCond .eq 12, 3) := dk_153 0 12 (dk_at dksX9_soonest_0 20 rfl rfl)
theorem dX9_soonest_23 : decode cX9_soonest 23 = .ok (.aload_n 0, 1) := dk_42 (dk_at dksX9_soonest_0 23 rfl rfl)
theorem dX9_soonest_24 : decode cX9_soonest 24 = .ok (.iload_n 1, 1) := dk_27 (dk_at dksX9_soonest_1 0 rfl rfl)
theorem dX9_soonest_25 : decode cX9_soonest 25 = .ok (.iload_n 2, 1) := dk_28 (dk_at dksX9_soonest_1 1 rfl rfl)
theorem dX9_soonest_26 : decode cX9_soonest 26 = .ok (.invokevirtual 342, 3) := dk_182 1 86 (dk_at dksX9_soonest_1 2 rfl rfl)
theorem dX9_soonest_29 : decode cX9_soonest 29 = .ok (.goto 5, 3) := dk_167 0 5 (dk_at dksX9_soonest_1 5 rfl rfl)
theorem dX9_soonest_32 : decode cX9_soonest 32 = .ok (.bipush (-2), 2) := dk_16 254 (dk_at dksX9_soonest_1 8 rfl rfl)
theorem dX9_soonest_34 : decode cX9_soonest 34 = .ok (.ireturn, 1) := dk_172 (dk_at dksX9_soonest_1 10 rfl rfl)
def dkwX9_isSpot_1 : List UInt8 := [153, 0, 7, 4, 167, 0, 4, 3, 172]
abbrev dktX9_isSpot_1 : List UInt8 := dkwX9_isSpot_1 ++ []
def dkwX9_isSpot_0 : List UInt8 := [31, 20, 0, 225, 148, 153, 0, 22, 31, 9, 5, 42, 180, 0, 13, 4, 46, 104, 4, 100, 133, 184, 0, 157]
abbrev dktX9_isSpot_0 : List UInt8 := dkwX9_isSpot_0 ++ dktX9_isSpot_1
theorem dksX9_isSpot_0 : cX9_isSpot.data.toList.drop 0 = dktX9_isSpot_0 := by decide +kernel
theorem dksX9_isSpot_1 : cX9_isSpot.data.toList.drop 24 = dktX9_isSpot_1 := dk_seg dksX9_isSpot_0 24 rfl rfl
theorem dX9_isSpot_0 : decode cX9_isSpot 0 = .ok (.lload_n 1, 1) := dk_31 (dk_at dksX9_isSpot_0 0 rfl rfl)
theorem dX9_isSpot_1 : decode cX9_isSpot 1 = .ok (.ldc2_w 225, 3) := dk_20 0 225 (dk_at dksX9_isSpot_0 1 rfl rfl)
theorem dX9_isSpot_4 : decode cX9_isSpot 4 = .ok (.lcmp, 1) := dk_148 (dk_at dksX9_isSpot_0 4 rfl rfl)
theorem dX9_isSpot_5 : decode cX9_isSpot 5 = .ok (.ifCond .eq 22, 3) := dk_153 0 22 (dk_at dksX9_isSpot_0 5 rfl rfl)
theorem dX9_isSpot_8 : decode cX9_isSpot 8 = .ok (.lload_n 1, 1) := dk_31 (dk_at dksX9_isSpot_0 8 rfl rfl)
theorem dX9_isSpot_9 : decode cX9_isSpot 9 = .ok (.lconst 0, 1) := dk_9 (dk_at dksX9_isSpot_0 9 rfl rfl)
theorem dX9_isSpot_10 : decode cX9_isSpot 10 = .ok (.iconst 2, 1) := dk_5 (dk_at dksX9_isSpot_0 10 rfl rfl)
theorem dX9_isSpot_11 : decode cX9_isSpot 11 = .ok (.aload_n 0, 1) := dk_42 (dk_at dksX9_isSpot_0 11 rfl rfl)
theorem dX9_isSpot_12 : decode cX9_isSpot 12 = .ok (.getfield 13, 3) := dk_180 0 13 (dk_at dksX9_isSpot_0 12 rfl rfl)
theorem dX9_isSpot_15 : decode cX9_isSpot 15 = .ok (.iconst 1, 1) := dk_4 (dk_at dksX9_isSpot_0 15 rfl rfl)
theorem dX9_isSpot_16 : decode cX9_isSpot 16 = .ok (.iaload, 1) := dk_46 (dk_at dksX9_isSpot_0 16 rfl rfl)
theorem dX9_isSpot_17 : decode cX9_isSpot 17 = .ok (.imul, 1) := dk_104 (dk_at dksX9_isSpot_0 17 rfl rfl)
theorem dX9_isSpot_18 : decode cX9_isSpot 18 = .ok (.iconst 1, 1) := dk_4 (dk_at dksX9_isSpot_0 18 rfl rfl)
theorem dX9_isSpot_19 : decode cX9_isSpot 19 = .ok (.isub, 1) := dk_100 (dk_at dksX9_isSpot_0 19 rfl rfl)
theorem dX9_isSpot_20 : decode cX9_isSpot 20 = .ok (.i2l, 1) := dk_133 (dk_at dksX9_isSpot_0 20 rfl rfl)
theorem dX9_isSpot_21 : decode cX9_isSpot 21 = .ok (.invokestatic 157, 3) := dk_184 0 157 (dk_at dksX9_isSpot_0 21 rfl rfl)
theorem dX9_isSpot_24 : decode cX9_isSpot 24 = .ok (.ifCond .eq 7, 3) := dk_153 0 7 (dk_at dksX9_isSpot_1 0 rfl rfl)
theorem dX9_isSpot_27 : decode cX9_isSpot 27 = .ok (.iconst 1, 1) := dk_4 (dk_at dksX9_isSpot_1 3 rfl rfl)
theorem dX9_isSpot_28 : decode cX9_isSpot 28 = .ok (.goto 4, 3) := dk_167 0 4 (dk_at dksX9_isSpot_1 4 rfl rfl)
theorem dX9_isSpot_31 : decode cX9_isSpot 31 = .ok (.iconst 0, 1) := dk_3 (dk_at dksX9_isSpot_1 7 rfl rfl)
theorem dX9_isSpot_32 : decode cX9_isSpot 32 = .ok (.ireturn, 1) := dk_172 (dk_at dksX9_isSpot_1 8 rfl rfl)
def dkwX9_soonestOf_0 : List UInt8 := [42, 27, 182, 1, 77, 42, 42, 180, 0, 13, 16, 35, 27, 96, 46, 28, 3, 182, 1, 80, 172]
abbrev dktX9_soonestOf_0 : List UInt8 := dkwX9_soonestOf_0 ++ []
theorem dksX9_soonestOf_0 : cX9_soonestOf.data.toList.drop 0 = dktX9_soonestOf_0 := by decide +kernel
theorem dX9_soonestOf_0 : decode cX9_soonestOf 0 = .ok (.aload_n 0, 1) := dk_42 (dk_at dksX9_soonestOf_0 0 rfl rfl)
theorem dX9_soonestOf_1 : decode cX9_soonestOf 1 = .ok (.iload_n 1, 1) := dk_27 (dk_at dksX9_soonestOf_0 1 rfl rfl)
theorem dX9_soonestOf_2 : decode cX9_soonestOf 2 = .ok (.invokevirtual 333, 3) := dk_182 1 77 (dk_at dksX9_soonestOf_0 2 rfl rfl)
theorem dX9_soonestOf_5 : decode cX9_soonestOf 5 = .ok (.aload_n 0, 1) := dk_42 (dk_at dksX9_soonestOf_0 5 rfl rfl)
theorem dX9_soonestOf_6 : decode cX9_soonestOf 6 = .ok (.aload_n 0, 1) := dk_42 (dk_at dksX9_soonestOf_0 6 rfl rfl)
theorem dX9_soonestOf_7 : decode cX9_soonestOf 7 = .ok (.getfield 13, 3) := dk_180 0 13 (dk_at dksX9_soonestOf_0 7 rfl rfl)
theorem dX9_soonestOf_10 : decode cX9_soonestOf 10 = .ok (.bipush 35, 2) := dk_16 35 (dk_at dksX9_soonestOf_0 10 rfl rfl)
theorem dX9_soonestOf_12 : decode cX9_soonestOf 12 = .ok (.iload_n 1, 1) := dk_27 (dk_at dksX9_soonestOf_0 12 rfl rfl)
theorem dX9_soonestOf_13 : decode cX9_soonestOf 13 = .ok (.iadd, 1) := dk_96 (dk_at dksX9_soonestOf_0 13 rfl rfl)
theorem dX9_soonestOf_14 : decode cX9_soonestOf 14 = .ok (.iaload, 1) := dk_46 (dk_at dksX9_soonestOf_0 14 rfl rfl)
theorem dX9_soonestOf_15 : decode cX9_soonestOf 15 = .ok (.iload_n 2, 1) := dk_28 (dk_at dksX9_soonestOf_0 15 rfl rfl)
theorem dX9_soonestOf_16 : decode cX9_soonestOf 16 = .ok (.iconst 0, 1) := dk_3 (dk_at dksX9_soonestOf_0 16 rfl rfl)
theorem dX9_soonestOf_17 : decode cX9_soonestOf 17 = .ok (.invokevirtual 336, 3) := dk_182 1 80 (dk_at dksX9_soonestOf_0 17 rfl rfl)
theorem dX9_soonestOf_20 : decode cX9_soonestOf 20 = .ok (.ireturn, 1) := dk_172 (dk_at dksX9_soonestOf_0 20 rfl rfl)
def dkwX9_laysLets_8 : List UInt8 := [167, 255, 210, 132, 3, 1, 167, 255, 72, 132, 2, 1, 167, 255, 54, 177]
abbrev dktX9_laysLets_8 : List UInt8 := dkwX9_laysLets_8 ++ []
def dkwX9_laysLets_7 : List UInt8 := [21, 5, 28, 29, 3, 182, 0, 241, 153, 0, 10, 4, 21, 5, 120, 167, 0, 4, 3, 128, 79, 132, 5, 1]
abbrev dktX9_laysLets_7 : List UInt8 := dkwX9_laysLets_7 ++ dktX9_laysLets_8
def dkwX9_laysLets_6 : List UInt8 := [54, 5, 21, 5, 42, 180, 0, 13, 4, 46, 162, 0, 41, 42, 180, 0, 45, 21, 4, 92, 46, 42, 4, 27]
abbrev dktX9_laysLets_6 : List UInt8 := dkwX9_laysLets_6 ++ dktX9_laysLets_7
def dkwX9_laysLets_5 : List UInt8 := [164, 0, 17, 42, 180, 0, 42, 21, 4, 92, 46, 4, 21, 5, 120, 128, 79, 132, 5, 1, 167, 255, 169, 3]
abbrev dktX9_laysLets_5 : List UInt8 := dkwX9_laysLets_5 ++ dktX9_laysLets_6
def dkwX9_laysLets_4 : List UInt8 := [4, 46, 4, 100, 162, 0, 17, 42, 180, 0, 39, 21, 4, 92, 46, 4, 21, 5, 120, 128, 79, 21, 5, 4]
abbrev dktX9_laysLets_4 : List UInt8 := dkwX9_laysLets_4 ++ dktX9_laysLets_5
def dkwX9_laysLets_3 : List UInt8 := [108, 28, 29, 21, 5, 5, 112, 182, 0, 241, 154, 0, 6, 167, 0, 52, 21, 5, 5, 108, 42, 180, 0, 13]
abbrev dktX9_laysLets_3 : List UInt8 := dkwX9_laysLets_3 ++ dktX9_laysLets_4
def dkwX9_laysLets_2 : List UInt8 := [3, 79, 3, 54, 5, 21, 5, 5, 42, 180, 0, 13, 4, 46, 104, 162, 0, 80, 42, 3, 27, 21, 5, 5]
abbrev dktX9_laysLets_2 : List UInt8 := dkwX9_laysLets_2 ++ dktX9_laysLets_3
def dkwX9_laysLets_1 : List UInt8 := [54, 4, 42, 180, 0, 39, 21, 4, 3, 79, 42, 180, 0, 42, 21, 4, 3, 79, 42, 180, 0, 45, 21, 4]
abbrev dktX9_laysLets_1 : List UInt8 := dkwX9_laysLets_1 ++ dktX9_laysLets_2
def dkwX9_laysLets_0 : List UInt8 := [3, 61, 28, 42, 180, 0, 13, 5, 46, 162, 0, 198, 3, 62, 29, 5, 162, 0, 185, 5, 28, 104, 29, 96]
abbrev dktX9_laysLets_0 : List UInt8 := dkwX9_laysLets_0 ++ dktX9_laysLets_1
theorem dksX9_laysLets_0 : cX9_laysLets.data.toList.drop 0 = dktX9_laysLets_0 := by decide +kernel
theorem dksX9_laysLets_1 : cX9_laysLets.data.toList.drop 24 = dktX9_laysLets_1 := dk_seg dksX9_laysLets_0 24 rfl rfl
theorem dksX9_laysLets_2 : cX9_laysLets.data.toList.drop 48 = dktX9_laysLets_2 := dk_seg dksX9_laysLets_1 24 rfl rfl
theorem dksX9_laysLets_3 : cX9_laysLets.data.toList.drop 72 = dktX9_laysLets_3 := dk_seg dksX9_laysLets_2 24 rfl rfl
theorem dksX9_laysLets_4 : cX9_laysLets.data.toList.drop 96 = dktX9_laysLets_4 := dk_seg dksX9_laysLets_3 24 rfl rfl
theorem dksX9_laysLets_5 : cX9_laysLets.data.toList.drop 120 = dktX9_laysLets_5 := dk_seg dksX9_laysLets_4 24 rfl rfl
theorem dksX9_laysLets_6 : cX9_laysLets.data.toList.drop 144 = dktX9_laysLets_6 := dk_seg dksX9_laysLets_5 24 rfl rfl
theorem dksX9_laysLets_7 : cX9_laysLets.data.toList.drop 168 = dktX9_laysLets_7 := dk_seg dksX9_laysLets_6 24 rfl rfl
theorem dksX9_laysLets_8 : cX9_laysLets.data.toList.drop 192 = dktX9_laysLets_8 := dk_seg dksX9_laysLets_7 24 rfl rfl
theorem dX9_laysLets_0 : decode cX9_laysLets 0 = .ok (.iconst 0, 1) := dk_3 (dk_at dksX9_laysLets_0 0 rfl rfl)
theorem dX9_laysLets_1 : decode cX9_laysLets 1 = .ok (.istore_n 2, 1) := dk_61 (dk_at dksX9_laysLets_0 1 rfl rfl)
theorem dX9_laysLets_2 : decode cX9_laysLets 2 = .ok (.iload_n 2, 1) := dk_28 (dk_at dksX9_laysLets_0 2 rfl rfl)
theorem dX9_laysLets_3 : decode cX9_laysLets 3 = .ok (.aload_n 0, 1) := dk_42 (dk_at dksX9_laysLets_0 3 rfl rfl)
theorem dX9_laysLets_4 : decode cX9_laysLets 4 = .ok (.getfield 13, 3) := dk_180 0 13 (dk_at dksX9_laysLets_0 4 rfl rfl)
theorem dX9_laysLets_7 : decode cX9_laysLets 7 = .ok (.iconst 2, 1) := dk_5 (dk_at dksX9_laysLets_0 7 rfl rfl)
theorem dX9_laysLets_8 : decode cX9_laysLets 8 = .ok (.iaload, 1) := dk_46 (dk_at dksX9_laysLets_0 8 rfl rfl)
theorem dX9_laysLets_9 : decode cX9_laysLets 9 = .ok (.if_icmp .ge 198, 3) := dk_162 0 198 (dk_at dksX9_laysLets_0 9 rfl rfl)
theorem dX9_laysLets_12 : decode cX9_laysLets 12 = .ok (.iconst 0, 1) := dk_3 (dk_at dksX9_laysLets_0 12 rfl rfl)
theorem dX9_laysLets_13 : decode cX9_laysLets 13 = .ok (.istore_n 3, 1) := dk_62 (dk_at dksX9_laysLets_0 13 rfl rfl)
theorem dX9_laysLets_14 : decode cX9_laysLets 14 = .ok (.iload_n 3, 1) := dk_29 (dk_at dksX9_laysLets_0 14 rfl rfl)
theorem dX9_laysLets_15 : decode cX9_laysLets 15 = .ok (.iconst 2, 1) := dk_5 (dk_at dksX9_laysLets_0 15 rfl rfl)
theorem dX9_laysLets_16 : decode cX9_laysLets 16 = .ok (.if_icmp .ge 185, 3) := dk_162 0 185 (dk_at dksX9_laysLets_0 16 rfl rfl)
theorem dX9_laysLets_19 : decode cX9_laysLets 19 = .ok (.iconst 2, 1) := dk_5 (dk_at dksX9_laysLets_0 19 rfl rfl)
theorem dX9_laysLets_20 : decode cX9_laysLets 20 = .ok (.iload_n 2, 1) := dk_28 (dk_at dksX9_laysLets_0 20 rfl rfl)
theorem dX9_laysLets_21 : decode cX9_laysLets 21 = .ok (.imul, 1) := dk_104 (dk_at dksX9_laysLets_0 21 rfl rfl)
theorem dX9_laysLets_22 : decode cX9_laysLets 22 = .ok (.iload_n 3, 1) := dk_29 (dk_at dksX9_laysLets_0 22 rfl rfl)
theorem dX9_laysLets_23 : decode cX9_laysLets 23 = .ok (.iadd, 1) := dk_96 (dk_at dksX9_laysLets_0 23 rfl rfl)
theorem dX9_laysLets_24 : decode cX9_laysLets 24 = .ok (.istore 4, 2) := dk_54 4 (dk_at dksX9_laysLets_1 0 rfl rfl)
theorem dX9_laysLets_26 : decode cX9_laysLets 26 = .ok (.aload_n 0, 1) := dk_42 (dk_at dksX9_laysLets_1 2 rfl rfl)
theorem dX9_laysLets_27 : decode cX9_laysLets 27 = .ok (.getfield 39, 3) := dk_180 0 39 (dk_at dksX9_laysLets_1 3 rfl rfl)
theorem dX9_laysLets_30 : decode cX9_laysLets 30 = .ok (.iload 4, 2) := dk_21 4 (dk_at dksX9_laysLets_1 6 rfl rfl)
theorem dX9_laysLets_32 : decode cX9_laysLets 32 = .ok (.iconst 0, 1) := dk_3 (dk_at dksX9_laysLets_1 8 rfl rfl)
theorem dX9_laysLets_33 : decode cX9_laysLets 33 = .ok (.iastore, 1) := dk_79 (dk_at dksX9_laysLets_1 9 rfl rfl)
theorem dX9_laysLets_34 : decode cX9_laysLets 34 = .ok (.aload_n 0, 1) := dk_42 (dk_at dksX9_laysLets_1 10 rfl rfl)
theorem dX9_laysLets_35 : decode cX9_laysLets 35 = .ok (.getfield 42, 3) := dk_180 0 42 (dk_at dksX9_laysLets_1 11 rfl rfl)
theorem dX9_laysLets_38 : decode cX9_laysLets 38 = .ok (.iload 4, 2) := dk_21 4 (dk_at dksX9_laysLets_1 14 rfl rfl)
theorem dX9_laysLets_40 : decode cX9_laysLets 40 = .ok (.iconst 0, 1) := dk_3 (dk_at dksX9_laysLets_1 16 rfl rfl)
theorem dX9_laysLets_41 : decode cX9_laysLets 41 = .ok (.iastore, 1) := dk_79 (dk_at dksX9_laysLets_1 17 rfl rfl)
theorem dX9_laysLets_42 : decode cX9_laysLets 42 = .ok (.aload_n 0, 1) := dk_42 (dk_at dksX9_laysLets_1 18 rfl rfl)
theorem dX9_laysLets_43 : decode cX9_laysLets 43 = .ok (.getfield 45, 3) := dk_180 0 45 (dk_at dksX9_laysLets_1 19 rfl rfl)
theorem dX9_laysLets_46 : decode cX9_laysLets 46 = .ok (.iload 4, 2) := dk_21 4 (dk_at dksX9_laysLets_1 22 rfl rfl)
theorem dX9_laysLets_48 : decode cX9_laysLets 48 = .ok (.iconst 0, 1) := dk_3 (dk_at dksX9_laysLets_2 0 rfl rfl)
theorem dX9_laysLets_49 : decode cX9_laysLets 49 = .ok (.iastore, 1) := dk_79 (dk_at dksX9_laysLets_2 1 rfl rfl)
theorem dX9_laysLets_50 : decode cX9_laysLets 50 = .ok (.iconst 0, 1) := dk_3 (dk_at dksX9_laysLets_2 2 rfl rfl)
theorem dX9_laysLets_51 : decode cX9_laysLets 51 = .ok (.istore 5, 2) := dk_54 5 (dk_at dksX9_laysLets_2 3 rfl rfl)
theorem dX9_laysLets_53 : decode cX9_laysLets 53 = .ok (.iload 5, 2) := dk_21 5 (dk_at dksX9_laysLets_2 5 rfl rfl)
theorem dX9_laysLets_55 : decode cX9_laysLets 55 = .ok (.iconst 2, 1) := dk_5 (dk_at dksX9_laysLets_2 7 rfl rfl)
theorem dX9_laysLets_56 : decode cX9_laysLets 56 = .ok (.aload_n 0, 1) := dk_42 (dk_at dksX9_laysLets_2 8 rfl rfl)
theorem dX9_laysLets_57 : decode cX9_laysLets 57 = .ok (.getfield 13, 3) := dk_180 0 13 (dk_at dksX9_laysLets_2 9 rfl rfl)
theorem dX9_laysLets_60 : decode cX9_laysLets 60 = .ok (.iconst 1, 1) := dk_4 (dk_at dksX9_laysLets_2 12 rfl rfl)
theorem dX9_laysLets_61 : decode cX9_laysLets 61 = .ok (.iaload, 1) := dk_46 (dk_at dksX9_laysLets_2 13 rfl rfl)
theorem dX9_laysLets_62 : decode cX9_laysLets 62 = .ok (.imul, 1) := dk_104 (dk_at dksX9_laysLets_2 14 rfl rfl)
theorem dX9_laysLets_63 : decode cX9_laysLets 63 = .ok (.if_icmp .ge 80, 3) := dk_162 0 80 (dk_at dksX9_laysLets_2 15 rfl rfl)
theorem dX9_laysLets_66 : decode cX9_laysLets 66 = .ok (.aload_n 0, 1) := dk_42 (dk_at dksX9_laysLets_2 18 rfl rfl)
theorem dX9_laysLets_67 : decode cX9_laysLets 67 = .ok (.iconst 0, 1) := dk_3 (dk_at dksX9_laysLets_2 19 rfl rfl)
theorem dX9_laysLets_68 : decode cX9_laysLets 68 = .ok (.iload_n 1, 1) := dk_27 (dk_at dksX9_laysLets_2 20 rfl rfl)
theorem dX9_laysLets_69 : decode cX9_laysLets 69 = .ok (.iload 5, 2) := dk_21 5 (dk_at dksX9_laysLets_2 21 rfl rfl)
theorem dX9_laysLets_71 : decode cX9_laysLets 71 = .ok (.iconst 2, 1) := dk_5 (dk_at dksX9_laysLets_2 23 rfl rfl)
theorem dX9_laysLets_72 : decode cX9_laysLets 72 = .ok (.idiv, 1) := dk_108 (dk_at dksX9_laysLets_3 0 rfl rfl)
theorem dX9_laysLets_73 : decode cX9_laysLets 73 = .ok (.iload_n 2, 1) := dk_28 (dk_at dksX9_laysLets_3 1 rfl rfl)
theorem dX9_laysLets_74 : decode cX9_laysLets 74 = .ok (.iload_n 3, 1) := dk_29 (dk_at dksX9_laysLets_3 2 rfl rfl)
theorem dX9_laysLets_75 : decode cX9_laysLets 75 = .ok (.iload 5, 2) := dk_21 5 (dk_at dksX9_laysLets_3 3 rfl rfl)
theorem dX9_laysLets_77 : decode cX9_laysLets 77 = .ok (.iconst 2, 1) := dk_5 (dk_at dksX9_laysLets_3 5 rfl rfl)
theorem dX9_laysLets_78 : decode cX9_laysLets 78 = .ok (.irem, 1) := dk_112 (dk_at dksX9_laysLets_3 6 rfl rfl)
theorem dX9_laysLets_79 : decode cX9_laysLets 79 = .ok (.invokevirtual 241, 3) := dk_182 0 241 (dk_at dksX9_laysLets_3 7 rfl rfl)
theorem dX9_laysLets_82 : decode cX9_laysLets 82 = .ok (.ifCond .ne 6, 3) := dk_154 0 6 (dk_at dksX9_laysLets_3 10 rfl rfl)
theorem dX9_laysLets_85 : decode cX9_laysLets 85 = .ok (.goto 52, 3) := dk_167 0 52 (dk_at dksX9_laysLets_3 13 rfl rfl)
theorem dX9_laysLets_88 : decode cX9_laysLets 88 = .ok (.iload 5, 2) := dk_21 5 (dk_at dksX9_laysLets_3 16 rfl rfl)
theorem dX9_laysLets_90 : decode cX9_laysLets 90 = .ok (.iconst 2, 1) := dk_5 (dk_at dksX9_laysLets_3 18 rfl rfl)
theorem dX9_laysLets_91 : decode cX9_laysLets 91 = .ok (.idiv, 1) := dk_108 (dk_at dksX9_laysLets_3 19 rfl rfl)
theorem dX9_laysLets_92 : decode cX9_laysLets 92 = .ok (.aload_n 0, 1) := dk_42 (dk_at dksX9_laysLets_3 20 rfl rfl)
theorem dX9_laysLets_93 : decode cX9_laysLets 93 = .ok (.getfield 13, 3) := dk_180 0 13 (dk_at dksX9_laysLets_3 21 rfl rfl)
theorem dX9_laysLets_96 : decode cX9_laysLets 96 = .ok (.iconst 1, 1) := dk_4 (dk_at dksX9_laysLets_4 0 rfl rfl)
theorem dX9_laysLets_97 : decode cX9_laysLets 97 = .ok (.iaload, 1) := dk_46 (dk_at dksX9_laysLets_4 1 rfl rfl)
theorem dX9_laysLets_98 : decode cX9_laysLets 98 = .ok (.iconst 1, 1) := dk_4 (dk_at dksX9_laysLets_4 2 rfl rfl)
theorem dX9_laysLets_99 : decode cX9_laysLets 99 = .ok (.isub, 1) := dk_100 (dk_at dksX9_laysLets_4 3 rfl rfl)
theorem dX9_laysLets_100 : decode cX9_laysLets 100 = .ok (.if_icmp .ge 17, 3) := dk_162 0 17 (dk_at dksX9_laysLets_4 4 rfl rfl)
theorem dX9_laysLets_103 : decode cX9_laysLets 103 = .ok (.aload_n 0, 1) := dk_42 (dk_at dksX9_laysLets_4 7 rfl rfl)
theorem dX9_laysLets_104 : decode cX9_laysLets 104 = .ok (.getfield 39, 3) := dk_180 0 39 (dk_at dksX9_laysLets_4 8 rfl rfl)
theorem dX9_laysLets_107 : decode cX9_laysLets 107 = .ok (.iload 4, 2) := dk_21 4 (dk_at dksX9_laysLets_4 11 rfl rfl)
theorem dX9_laysLets_109 : decode cX9_laysLets 109 = .ok (.dup2, 1) := dk_92 (dk_at dksX9_laysLets_4 13 rfl rfl)
theorem dX9_laysLets_110 : decode cX9_laysLets 110 = .ok (.iaload, 1) := dk_46 (dk_at dksX9_laysLets_4 14 rfl rfl)
theorem dX9_laysLets_111 : decode cX9_laysLets 111 = .ok (.iconst 1, 1) := dk_4 (dk_at dksX9_laysLets_4 15 rfl rfl)
theorem dX9_laysLets_112 : decode cX9_laysLets 112 = .ok (.iload 5, 2) := dk_21 5 (dk_at dksX9_laysLets_4 16 rfl rfl)
theorem dX9_laysLets_114 : decode cX9_laysLets 114 = .ok (.ishl, 1) := dk_120 (dk_at dksX9_laysLets_4 18 rfl rfl)
theorem dX9_laysLets_115 : decode cX9_laysLets 115 = .ok (.ior, 1) := dk_128 (dk_at dksX9_laysLets_4 19 rfl rfl)
theorem dX9_laysLets_116 : decode cX9_laysLets 116 = .ok (.iastore, 1) := dk_79 (dk_at dksX9_laysLets_4 20 rfl rfl)
theorem dX9_laysLets_117 : decode cX9_laysLets 117 = .ok (.iload 5, 2) := dk_21 5 (dk_at dksX9_laysLets_4 21 rfl rfl)
theorem dX9_laysLets_119 : decode cX9_laysLets 119 = .ok (.iconst 1, 1) := dk_4 (dk_at dksX9_laysLets_4 23 rfl rfl)
theorem dX9_laysLets_120 : decode cX9_laysLets 120 = .ok (.if_icmp .le 17, 3) := dk_164 0 17 (dk_at dksX9_laysLets_5 0 rfl rfl)
theorem dX9_laysLets_123 : decode cX9_laysLets 123 = .ok (.aload_n 0, 1) := dk_42 (dk_at dksX9_laysLets_5 3 rfl rfl)
theorem dX9_laysLets_124 : decode cX9_laysLets 124 = .ok (.getfield 42, 3) := dk_180 0 42 (dk_at dksX9_laysLets_5 4 rfl rfl)
theorem dX9_laysLets_127 : decode cX9_laysLets 127 = .ok (.iload 4, 2) := dk_21 4 (dk_at dksX9_laysLets_5 7 rfl rfl)
theorem dX9_laysLets_129 : decode cX9_laysLets 129 = .ok (.dup2, 1) := dk_92 (dk_at dksX9_laysLets_5 9 rfl rfl)
theorem dX9_laysLets_130 : decode cX9_laysLets 130 = .ok (.iaload, 1) := dk_46 (dk_at dksX9_laysLets_5 10 rfl rfl)
theorem dX9_laysLets_131 : decode cX9_laysLets 131 = .ok (.iconst 1, 1) := dk_4 (dk_at dksX9_laysLets_5 11 rfl rfl)
theorem dX9_laysLets_132 : decode cX9_laysLets 132 = .ok (.iload 5, 2) := dk_21 5 (dk_at dksX9_laysLets_5 12 rfl rfl)
theorem dX9_laysLets_134 : decode cX9_laysLets 134 = .ok (.ishl, 1) := dk_120 (dk_at dksX9_laysLets_5 14 rfl rfl)
theorem dX9_laysLets_135 : decode cX9_laysLets 135 = .ok (.ior, 1) := dk_128 (dk_at dksX9_laysLets_5 15 rfl rfl)
theorem dX9_laysLets_136 : decode cX9_laysLets 136 = .ok (.iastore, 1) := dk_79 (dk_at dksX9_laysLets_5 16 rfl rfl)
theorem dX9_laysLets_137 : decode cX9_laysLets 137 = .ok (.iinc 5 1, 3) := dk_132 5 1 (dk_at dksX9_laysLets_5 17 rfl rfl)
theorem dX9_laysLets_140 : decode cX9_laysLets 140 = .ok (.goto (-87), 3) := dk_167 255 169 (dk_at dksX9_laysLets_5 20 rfl rfl)
theorem dX9_laysLets_143 : decode cX9_laysLets 143 = .ok (.iconst 0, 1) := dk_3 (dk_at dksX9_laysLets_5 23 rfl rfl)
theorem dX9_laysLets_144 : decode cX9_laysLets 144 = .ok (.istore 5, 2) := dk_54 5 (dk_at dksX9_laysLets_6 0 rfl rfl)
theorem dX9_laysLets_146 : decode cX9_laysLets 146 = .ok (.iload 5, 2) := dk_21 5 (dk_at dksX9_laysLets_6 2 rfl rfl)
theorem dX9_laysLets_148 : decode cX9_laysLets 148 = .ok (.aload_n 0, 1) := dk_42 (dk_at dksX9_laysLets_6 4 rfl rfl)
theorem dX9_laysLets_149 : decode cX9_laysLets 149 = .ok (.getfield 13, 3) := dk_180 0 13 (dk_at dksX9_laysLets_6 5 rfl rfl)
theorem dX9_laysLets_152 : decode cX9_laysLets 152 = .ok (.iconst 1, 1) := dk_4 (dk_at dksX9_laysLets_6 8 rfl rfl)
theorem dX9_laysLets_153 : decode cX9_laysLets 153 = .ok (.iaload, 1) := dk_46 (dk_at dksX9_laysLets_6 9 rfl rfl)
theorem dX9_laysLets_154 : decode cX9_laysLets 154 = .ok (.if_icmp .ge 41, 3) := dk_162 0 41 (dk_at dksX9_laysLets_6 10 rfl rfl)
theorem dX9_laysLets_157 : decode cX9_laysLets 157 = .ok (.aload_n 0, 1) := dk_42 (dk_at dksX9_laysLets_6 13 rfl rfl)
theorem dX9_laysLets_158 : decode cX9_laysLets 158 = .ok (.getfield 45, 3) := dk_180 0 45 (dk_at dksX9_laysLets_6 14 rfl rfl)
theorem dX9_laysLets_161 : decode cX9_laysLets 161 = .ok (.iload 4, 2) := dk_21 4 (dk_at dksX9_laysLets_6 17 rfl rfl)
theorem dX9_laysLets_163 : decode cX9_laysLets 163 = .ok (.dup2, 1) := dk_92 (dk_at dksX9_laysLets_6 19 rfl rfl)
theorem dX9_laysLets_164 : decode cX9_laysLets 164 = .ok (.iaload, 1) := dk_46 (dk_at dksX9_laysLets_6 20 rfl rfl)
theorem dX9_laysLets_165 : decode cX9_laysLets 165 = .ok (.aload_n 0, 1) := dk_42 (dk_at dksX9_laysLets_6 21 rfl rfl)
theorem dX9_laysLets_166 : decode cX9_laysLets 166 = .ok (.iconst 1, 1) := dk_4 (dk_at dksX9_laysLets_6 22 rfl rfl)
theorem dX9_laysLets_167 : decode cX9_laysLets 167 = .ok (.iload_n 1, 1) := dk_27 (dk_at dksX9_laysLets_6 23 rfl rfl)
theorem dX9_laysLets_168 : decode cX9_laysLets 168 = .ok (.iload 5, 2) := dk_21 5 (dk_at dksX9_laysLets_7 0 rfl rfl)
theorem dX9_laysLets_170 : decode cX9_laysLets 170 = .ok (.iload_n 2, 1) := dk_28 (dk_at dksX9_laysLets_7 2 rfl rfl)
theorem dX9_laysLets_171 : decode cX9_laysLets 171 = .ok (.iload_n 3, 1) := dk_29 (dk_at dksX9_laysLets_7 3 rfl rfl)
theorem dX9_laysLets_172 : decode cX9_laysLets 172 = .ok (.iconst 0, 1) := dk_3 (dk_at dksX9_laysLets_7 4 rfl rfl)
theorem dX9_laysLets_173 : decode cX9_laysLets 173 = .ok (.invokevirtual 241, 3) := dk_182 0 241 (dk_at dksX9_laysLets_7 5 rfl rfl)
theorem dX9_laysLets_176 : decode cX9_laysLets 176 = .ok (.ifCond .eq 10, 3) := dk_153 0 10 (dk_at dksX9_laysLets_7 8 rfl rfl)
theorem dX9_laysLets_179 : decode cX9_laysLets 179 = .ok (.iconst 1, 1) := dk_4 (dk_at dksX9_laysLets_7 11 rfl rfl)
theorem dX9_laysLets_180 : decode cX9_laysLets 180 = .ok (.iload 5, 2) := dk_21 5 (dk_at dksX9_laysLets_7 12 rfl rfl)
theorem dX9_laysLets_182 : decode cX9_laysLets 182 = .ok (.ishl, 1) := dk_120 (dk_at dksX9_laysLets_7 14 rfl rfl)
theorem dX9_laysLets_183 : decode cX9_laysLets 183 = .ok (.goto 4, 3) := dk_167 0 4 (dk_at dksX9_laysLets_7 15 rfl rfl)
theorem dX9_laysLets_186 : decode cX9_laysLets 186 = .ok (.iconst 0, 1) := dk_3 (dk_at dksX9_laysLets_7 18 rfl rfl)
theorem dX9_laysLets_187 : decode cX9_laysLets 187 = .ok (.ior, 1) := dk_128 (dk_at dksX9_laysLets_7 19 rfl rfl)
theorem dX9_laysLets_188 : decode cX9_laysLets 188 = .ok (.iastore, 1) := dk_79 (dk_at dksX9_laysLets_7 20 rfl rfl)
theorem dX9_laysLets_189 : decode cX9_laysLets 189 = .ok (.iinc 5 1, 3) := dk_132 5 1 (dk_at dksX9_laysLets_7 21 rfl rfl)
theorem dX9_laysLets_192 : decode cX9_laysLets 192 = .ok (.goto (-46), 3) := dk_167 255 210 (dk_at dksX9_laysLets_8 0 rfl rfl)
theorem dX9_laysLets_195 : decode cX9_laysLets 195 = .ok (.iinc 3 1, 3) := dk_132 3 1 (dk_at dksX9_laysLets_8 3 rfl rfl)
theorem dX9_laysLets_198 : decode cX9_laysLets 198 = .ok (.goto (-184), 3) := dk_167 255 72 (dk_at dksX9_laysLets_8 6 rfl rfl)
theorem dX9_laysLets_201 : decode cX9_laysLets 201 = .ok (.iinc 2 1, 3) := dk_132 2 1 (dk_at dksX9_laysLets_8 9 rfl rfl)
theorem dX9_laysLets_204 : decode cX9_laysLets 204 = .ok (.goto (-202), 3) := dk_167 255 54 (dk_at dksX9_laysLets_8 12 rfl rfl)
theorem dX9_laysLets_207 : decode cX9_laysLets 207 = .ok (.return_, 1) := dk_177 (dk_at dksX9_laysLets_8 15 rfl rfl)
def dkwX9_hoursTo_2 : List UInt8 := [21, 5, 96, 182, 0, 251, 182, 1, 74, 54, 4, 132, 5, 1, 167, 255, 205, 2, 172]
abbrev dktX9_hoursTo_2 : List UInt8 := dkwX9_hoursTo_2 ++ []
def dkwX9_hoursTo_1 : List UInt8 := [153, 0, 6, 21, 5, 172, 42, 21, 4, 42, 180, 0, 13, 16, 26, 46, 29, 96, 21, 5, 96, 42, 29]
abbrev dktX9_hoursTo_1 : List UInt8 := dkwX9_hoursTo_1 ++ dktX9_hoursTo_2
def dkwX9_hoursTo_0 : List UInt8 := [4, 27, 120, 54, 4, 3, 54, 5, 21, 5, 16, 60, 163, 0, 50, 21, 4, 133, 28, 184, 1, 4]
abbrev dktX9_hoursTo_0 : List UInt8 := dkwX9_hoursTo_0 ++ dktX9_hoursTo_1
theorem dksX9_hoursTo_0 : cX9_hoursTo.data.toList.drop 0 = dktX9_hoursTo_0 := by decide +kernel
theorem dksX9_hoursTo_1 : cX9_hoursTo.data.toList.drop 22 = dktX9_hoursTo_1 := dk_seg dksX9_hoursTo_0 22 rfl rfl
theorem dksX9_hoursTo_2 : cX9_hoursTo.data.toList.drop 45 = dktX9_hoursTo_2 := dk_seg dksX9_hoursTo_1 23 rfl rfl
theorem dX9_hoursTo_0 : decode cX9_hoursTo 0 = .ok (.iconst 1, 1) := dk_4 (dk_at dksX9_hoursTo_0 0 rfl rfl)
theorem dX9_hoursTo_1 : decode cX9_hoursTo 1 = .ok (.iload_n 1, 1) := dk_27 (dk_at dksX9_hoursTo_0 1 rfl rfl)
theorem dX9_hoursTo_2 : decode cX9_hoursTo 2 = .ok (.ishl, 1) := dk_120 (dk_at dksX9_hoursTo_0 2 rfl rfl)
theorem dX9_hoursTo_3 : decode cX9_hoursTo 3 = .ok (.istore 4, 2) := dk_54 4 (dk_at dksX9_hoursTo_0 3 rfl rfl)
theorem dX9_hoursTo_5 : decode cX9_hoursTo 5 = .ok (.iconst 0, 1) := dk_3 (dk_at dksX9_hoursTo_0 5 rfl rfl)
theorem dX9_hoursTo_6 : decode cX9_hoursTo 6 = .ok (.istore 5, 2) := dk_54 5 (dk_at dksX9_hoursTo_0 6 rfl rfl)
theorem dX9_hoursTo_8 : decode cX9_hoursTo 8 = .ok (.iload 5, 2) := dk_21 5 (dk_at dksX9_hoursTo_0 8 rfl rfl)
theorem dX9_hoursTo_10 : decode cX9_hoursTo 10 = .ok (.bipush 60, 2) := dk_16 60 (dk_at dksX9_hoursTo_0 10 rfl rfl)
theorem dX9_hoursTo_12 : decode cX9_hoursTo 12 = .ok (.if_icmp .gt 50, 3) := dk_163 0 50 (dk_at dksX9_hoursTo_0 12 rfl rfl)
theorem dX9_hoursTo_15 : decode cX9_hoursTo 15 = .ok (.iload 4, 2) := dk_21 4 (dk_at dksX9_hoursTo_0 15 rfl rfl)
theorem dX9_hoursTo_17 : decode cX9_hoursTo 17 = .ok (.i2l, 1) := dk_133 (dk_at dksX9_hoursTo_0 17 rfl rfl)
theorem dX9_hoursTo_18 : decode cX9_hoursTo 18 = .ok (.iload_n 2, 1) := dk_28 (dk_at dksX9_hoursTo_0 18 rfl rfl)
theorem dX9_hoursTo_19 : decode cX9_hoursTo 19 = .ok (.invokestatic 260, 3) := dk_184 1 4 (dk_at dksX9_hoursTo_0 19 rfl rfl)
theorem dX9_hoursTo_22 : decode cX9_hoursTo 22 = .ok (.ifCond .eq 6, 3) := dk_153 0 6 (dk_at dksX9_hoursTo_1 0 rfl rfl)
theorem dX9_hoursTo_25 : decode cX9_hoursTo 25 = .ok (.iload 5, 2) := dk_21 5 (dk_at dksX9_hoursTo_1 3 rfl rfl)
theorem dX9_hoursTo_27 : decode cX9_hoursTo 27 = .ok (.ireturn, 1) := dk_172 (dk_at dksX9_hoursTo_1 5 rfl rfl)
theorem dX9_hoursTo_28 : decode cX9_hoursTo 28 = .ok (.aload_n 0, 1) := dk_42 (dk_at dksX9_hoursTo_1 6 rfl rfl)
theorem dX9_hoursTo_29 : decode cX9_hoursTo 29 = .ok (.iload 4, 2) := dk_21 4 (dk_at dksX9_hoursTo_1 7 rfl rfl)
theorem dX9_hoursTo_31 : decode cX9_hoursTo 31 = .ok (.aload_n 0, 1) := dk_42 (dk_at dksX9_hoursTo_1 9 rfl rfl)
theorem dX9_hoursTo_32 : decode cX9_hoursTo 32 = .ok (.getfield 13, 3) := dk_180 0 13 (dk_at dksX9_hoursTo_1 10 rfl rfl)
theorem dX9_hoursTo_35 : decode cX9_hoursTo 35 = .ok (.bipush 26, 2) := dk_16 26 (dk_at dksX9_hoursTo_1 13 rfl rfl)
theorem dX9_hoursTo_37 : decode cX9_hoursTo 37 = .ok (.iaload, 1) := dk_46 (dk_at dksX9_hoursTo_1 15 rfl rfl)
theorem dX9_hoursTo_38 : decode cX9_hoursTo 38 = .ok (.iload_n 3, 1) := dk_29 (dk_at dksX9_hoursTo_1 16 rfl rfl)
theorem dX9_hoursTo_39 : decode cX9_hoursTo 39 = .ok (.iadd, 1) := dk_96 (dk_at dksX9_hoursTo_1 17 rfl rfl)
theorem dX9_hoursTo_40 : decode cX9_hoursTo 40 = .ok (.iload 5, 2) := dk_21 5 (dk_at dksX9_hoursTo_1 18 rfl rfl)
theorem dX9_hoursTo_42 : decode cX9_hoursTo 42 = .ok (.iadd, 1) := dk_96 (dk_at dksX9_hoursTo_1 20 rfl rfl)
theorem dX9_hoursTo_43 : decode cX9_hoursTo 43 = .ok (.aload_n 0, 1) := dk_42 (dk_at dksX9_hoursTo_1 21 rfl rfl)
theorem dX9_hoursTo_44 : decode cX9_hoursTo 44 = .ok (.iload_n 3, 1) := dk_29 (dk_at dksX9_hoursTo_1 22 rfl rfl)
theorem dX9_hoursTo_45 : decode cX9_hoursTo 45 = .ok (.iload 5, 2) := dk_21 5 (dk_at dksX9_hoursTo_2 0 rfl rfl)
theorem dX9_hoursTo_47 : decode cX9_hoursTo 47 = .ok (.iadd, 1) := dk_96 (dk_at dksX9_hoursTo_2 2 rfl rfl)
theorem dX9_hoursTo_48 : decode cX9_hoursTo 48 = .ok (.invokevirtual 251, 3) := dk_182 0 251 (dk_at dksX9_hoursTo_2 3 rfl rfl)
theorem dX9_hoursTo_51 : decode cX9_hoursTo 51 = .ok (.invokevirtual 330, 3) := dk_182 1 74 (dk_at dksX9_hoursTo_2 6 rfl rfl)
theorem dX9_hoursTo_54 : decode cX9_hoursTo 54 = .ok (.istore 4, 2) := dk_54 4 (dk_at dksX9_hoursTo_2 9 rfl rfl)
theorem dX9_hoursTo_56 : decode cX9_hoursTo 56 = .ok (.iinc 5 1, 3) := dk_132 5 1 (dk_at dksX9_hoursTo_2 11 rfl rfl)
theorem dX9_hoursTo_59 : decode cX9_hoursTo 59 = .ok (.goto (-51), 3) := dk_167 255 205 (dk_at dksX9_hoursTo_2 14 rfl rfl)
theorem dX9_hoursTo_62 : decode cX9_hoursTo 62 = .ok (.iconst (-1), 1) := dk_2 (dk_at dksX9_hoursTo_2 17 rfl rfl)
theorem dX9_hoursTo_63 : decode cX9_hoursTo 63 = .ok (.ireturn, 1) := dk_172 (dk_at dksX9_hoursTo_2 18 rfl rfl)
def dkwX9_goesOn_6 : List UInt8 := [21, 5, 172]
abbrev dktX9_goesOn_6 : List UInt8 := dkwX9_goesOn_6 ++ []
def dkwX9_goesOn_5 : List UInt8 := [128, 54, 5, 27, 133, 16, 8, 184, 1, 4, 153, 0, 13, 21, 5, 21, 7, 21, 8, 128, 128, 54, 5]
abbrev dktX9_goesOn_5 : List UInt8 := dkwX9_goesOn_5 ++ dktX9_goesOn_6
def dkwX9_goesOn_4 : List UInt8 := [21, 8, 17, 1, 0, 128, 128, 54, 5, 27, 21, 8, 126, 153, 0, 14, 21, 5, 21, 7, 17, 1, 0, 128]
abbrev dktX9_goesOn_4 : List UInt8 := dkwX9_goesOn_4 ++ dktX9_goesOn_5
def dkwX9_goesOn_3 : List UInt8 := [172, 4, 5, 21, 6, 104, 120, 54, 7, 21, 7, 4, 120, 54, 8, 27, 21, 7, 126, 153, 0, 14, 21, 5]
abbrev dktX9_goesOn_3 : List UInt8 := dkwX9_goesOn_3 ++ dktX9_goesOn_4
def dkwX9_goesOn_2 : List UInt8 := [21, 6, 2, 159, 0, 19, 42, 180, 0, 45, 21, 4, 46, 133, 21, 6, 184, 1, 4, 154, 0, 6, 21, 5]
abbrev dktX9_goesOn_2 : List UInt8 := dkwX9_goesOn_2 ++ dktX9_goesOn_3
def dkwX9_goesOn_1 : List UInt8 := [5, 120, 128, 27, 42, 180, 0, 42, 21, 4, 46, 126, 5, 122, 128, 54, 5, 42, 28, 182, 0, 235, 54, 6]
abbrev dktX9_goesOn_1 : List UInt8 := dkwX9_goesOn_1 ++ dktX9_goesOn_2
def dkwX9_goesOn_0 : List UInt8 := [5, 28, 42, 180, 0, 13, 5, 46, 112, 104, 29, 96, 54, 4, 27, 27, 42, 180, 0, 39, 21, 4, 46, 126]
abbrev dktX9_goesOn_0 : List UInt8 := dkwX9_goesOn_0 ++ dktX9_goesOn_1
theorem dksX9_goesOn_0 : cX9_goesOn.data.toList.drop 0 = dktX9_goesOn_0 := by decide +kernel
theorem dksX9_goesOn_1 : cX9_goesOn.data.toList.drop 24 = dktX9_goesOn_1 := dk_seg dksX9_goesOn_0 24 rfl rfl
theorem dksX9_goesOn_2 : cX9_goesOn.data.toList.drop 48 = dktX9_goesOn_2 := dk_seg dksX9_goesOn_1 24 rfl rfl
theorem dksX9_goesOn_3 : cX9_goesOn.data.toList.drop 72 = dktX9_goesOn_3 := dk_seg dksX9_goesOn_2 24 rfl rfl
theorem dksX9_goesOn_4 : cX9_goesOn.data.toList.drop 96 = dktX9_goesOn_4 := dk_seg dksX9_goesOn_3 24 rfl rfl
theorem dksX9_goesOn_5 : cX9_goesOn.data.toList.drop 120 = dktX9_goesOn_5 := dk_seg dksX9_goesOn_4 24 rfl rfl
theorem dksX9_goesOn_6 : cX9_goesOn.data.toList.drop 143 = dktX9_goesOn_6 := dk_seg dksX9_goesOn_5 23 rfl rfl
theorem dX9_goesOn_0 : decode cX9_goesOn 0 = .ok (.iconst 2, 1) := dk_5 (dk_at dksX9_goesOn_0 0 rfl rfl)
theorem dX9_goesOn_1 : decode cX9_goesOn 1 = .ok (.iload_n 2, 1) := dk_28 (dk_at dksX9_goesOn_0 1 rfl rfl)
theorem dX9_goesOn_2 : decode cX9_goesOn 2 = .ok (.aload_n 0, 1) := dk_42 (dk_at dksX9_goesOn_0 2 rfl rfl)
theorem dX9_goesOn_3 : decode cX9_goesOn 3 = .ok (.getfield 13, 3) := dk_180 0 13 (dk_at dksX9_goesOn_0 3 rfl rfl)
theorem dX9_goesOn_6 : decode cX9_goesOn 6 = .ok (.iconst 2, 1) := dk_5 (dk_at dksX9_goesOn_0 6 rfl rfl)
theorem dX9_goesOn_7 : decode cX9_goesOn 7 = .ok (.iaload, 1) := dk_46 (dk_at dksX9_goesOn_0 7 rfl rfl)
theorem dX9_goesOn_8 : decode cX9_goesOn 8 = .ok (.irem, 1) := dk_112 (dk_at dksX9_goesOn_0 8 rfl rfl)
theorem dX9_goesOn_9 : decode cX9_goesOn 9 = .ok (.imul, 1) := dk_104 (dk_at dksX9_goesOn_0 9 rfl rfl)
theorem dX9_goesOn_10 : decode cX9_goesOn 10 = .ok (.iload_n 3, 1) := dk_29 (dk_at dksX9_goesOn_0 10 rfl rfl)
theorem dX9_goesOn_11 : decode cX9_goesOn 11 = .ok (.iadd, 1) := dk_96 (dk_at dksX9_goesOn_0 11 rfl rfl)
theorem dX9_goesOn_12 : decode cX9_goesOn 12 = .ok (.istore 4, 2) := dk_54 4 (dk_at dksX9_goesOn_0 12 rfl rfl)
theorem dX9_goesOn_14 : decode cX9_goesOn 14 = .ok (.iload_n 1, 1) := dk_27 (dk_at dksX9_goesOn_0 14 rfl rfl)
theorem dX9_goesOn_15 : decode cX9_goesOn 15 = .ok (.iload_n 1, 1) := dk_27 (dk_at dksX9_goesOn_0 15 rfl rfl)
theorem dX9_goesOn_16 : decode cX9_goesOn 16 = .ok (.aload_n 0, 1) := dk_42 (dk_at dksX9_goesOn_0 16 rfl rfl)
theorem dX9_goesOn_17 : decode cX9_goesOn 17 = .ok (.getfield 39, 3) := dk_180 0 39 (dk_at dksX9_goesOn_0 17 rfl rfl)
theorem dX9_goesOn_20 : decode cX9_goesOn 20 = .ok (.iload 4, 2) := dk_21 4 (dk_at dksX9_goesOn_0 20 rfl rfl)
theorem dX9_goesOn_22 : decode cX9_goesOn 22 = .ok (.iaload, 1) := dk_46 (dk_at dksX9_goesOn_0 22 rfl rfl)
theorem dX9_goesOn_23 : decode cX9_goesOn 23 = .ok (.iand, 1) := dk_126 (dk_at dksX9_goesOn_0 23 rfl rfl)
theorem dX9_goesOn_24 : decode cX9_goesOn 24 = .ok (.iconst 2, 1) := dk_5 (dk_at dksX9_goesOn_1 0 rfl rfl)
theorem dX9_goesOn_25 : decode cX9_goesOn 25 = .ok (.ishl, 1) := dk_120 (dk_at dksX9_goesOn_1 1 rfl rfl)
theorem dX9_goesOn_26 : decode cX9_goesOn 26 = .ok (.ior, 1) := dk_128 (dk_at dksX9_goesOn_1 2 rfl rfl)
theorem dX9_goesOn_27 : decode cX9_goesOn 27 = .ok (.iload_n 1, 1) := dk_27 (dk_at dksX9_goesOn_1 3 rfl rfl)
theorem dX9_goesOn_28 : decode cX9_goesOn 28 = .ok (.aload_n 0, 1) := dk_42 (dk_at dksX9_goesOn_1 4 rfl rfl)
theorem dX9_goesOn_29 : decode cX9_goesOn 29 = .ok (.getfield 42, 3) := dk_180 0 42 (dk_at dksX9_goesOn_1 5 rfl rfl)
theorem dX9_goesOn_32 : decode cX9_goesOn 32 = .ok (.iload 4, 2) := dk_21 4 (dk_at dksX9_goesOn_1 8 rfl rfl)
theorem dX9_goesOn_34 : decode cX9_goesOn 34 = .ok (.iaload, 1) := dk_46 (dk_at dksX9_goesOn_1 10 rfl rfl)
theorem dX9_goesOn_35 : decode cX9_goesOn 35 = .ok (.iand, 1) := dk_126 (dk_at dksX9_goesOn_1 11 rfl rfl)
theorem dX9_goesOn_36 : decode cX9_goesOn 36 = .ok (.iconst 2, 1) := dk_5 (dk_at dksX9_goesOn_1 12 rfl rfl)
theorem dX9_goesOn_37 : decode cX9_goesOn 37 = .ok (.ishr, 1) := dk_122 (dk_at dksX9_goesOn_1 13 rfl rfl)
theorem dX9_goesOn_38 : decode cX9_goesOn 38 = .ok (.ior, 1) := dk_128 (dk_at dksX9_goesOn_1 14 rfl rfl)
theorem dX9_goesOn_39 : decode cX9_goesOn 39 = .ok (.istore 5, 2) := dk_54 5 (dk_at dksX9_goesOn_1 15 rfl rfl)
theorem dX9_goesOn_41 : decode cX9_goesOn 41 = .ok (.aload_n 0, 1) := dk_42 (dk_at dksX9_goesOn_1 17 rfl rfl)
theorem dX9_goesOn_42 : decode cX9_goesOn 42 = .ok (.iload_n 2, 1) := dk_28 (dk_at dksX9_goesOn_1 18 rfl rfl)
theorem dX9_goesOn_43 : decode cX9_goesOn 43 = .ok (.invokevirtual 235, 3) := dk_182 0 235 (dk_at dksX9_goesOn_1 19 rfl rfl)
theorem dX9_goesOn_46 : decode cX9_goesOn 46 = .ok (.istore 6, 2) := dk_54 6 (dk_at dksX9_goesOn_1 22 rfl rfl)
theorem dX9_goesOn_48 : decode cX9_goesOn 48 = .ok (.iload 6, 2) := dk_21 6 (dk_at dksX9_goesOn_2 0 rfl rfl)
theorem dX9_goesOn_50 : decode cX9_goesOn 50 = .ok (.iconst (-1), 1) := dk_2 (dk_at dksX9_goesOn_2 2 rfl rfl)
theorem dX9_goesOn_51 : decode cX9_goesOn 51 = .ok (.if_icmp .eq 19, 3) := dk_159 0 19 (dk_at dksX9_goesOn_2 3 rfl rfl)
theorem dX9_goesOn_54 : decode cX9_goesOn 54 = .ok (.aload_n 0, 1) := dk_42 (dk_at dksX9_goesOn_2 6 rfl rfl)
theorem dX9_goesOn_55 : decode cX9_goesOn 55 = .ok (.getfield 45, 3) := dk_180 0 45 (dk_at dksX9_goesOn_2 7 rfl rfl)
theorem dX9_goesOn_58 : decode cX9_goesOn 58 = .ok (.iload 4, 2) := dk_21 4 (dk_at dksX9_goesOn_2 10 rfl rfl)
theorem dX9_goesOn_60 : decode cX9_goesOn 60 = .ok (.iaload, 1) := dk_46 (dk_at dksX9_goesOn_2 12 rfl rfl)
theorem dX9_goesOn_61 : decode cX9_goesOn 61 = .ok (.i2l, 1) := dk_133 (dk_at dksX9_goesOn_2 13 rfl rfl)
theorem dX9_goesOn_62 : decode cX9_goesOn 62 = .ok (.iload 6, 2) := dk_21 6 (dk_at dksX9_goesOn_2 14 rfl rfl)
theorem dX9_goesOn_64 : decode cX9_goesOn 64 = .ok (.invokestatic 260, 3) := dk_184 1 4 (dk_at dksX9_goesOn_2 16 rfl rfl)
theorem dX9_goesOn_67 : decode cX9_goesOn 67 = .ok (.ifCond .ne 6, 3) := dk_154 0 6 (dk_at dksX9_goesOn_2 19 rfl rfl)
theorem dX9_goesOn_70 : decode cX9_goesOn 70 = .ok (.iload 5, 2) := dk_21 5 (dk_at dksX9_goesOn_2 22 rfl rfl)
theorem dX9_goesOn_72 : decode cX9_goesOn 72 = .ok (.ireturn, 1) := dk_172 (dk_at dksX9_goesOn_3 0 rfl rfl)
theorem dX9_goesOn_73 : decode cX9_goesOn 73 = .ok (.iconst 1, 1) := dk_4 (dk_at dksX9_goesOn_3 1 rfl rfl)
theorem dX9_goesOn_74 : decode cX9_goesOn 74 = .ok (.iconst 2, 1) := dk_5 (dk_at dksX9_goesOn_3 2 rfl rfl)
theorem dX9_goesOn_75 : decode cX9_goesOn 75 = .ok (.iload 6, 2) := dk_21 6 (dk_at dksX9_goesOn_3 3 rfl rfl)
theorem dX9_goesOn_77 : decode cX9_goesOn 77 = .ok (.imul, 1) := dk_104 (dk_at dksX9_goesOn_3 5 rfl rfl)
theorem dX9_goesOn_78 : decode cX9_goesOn 78 = .ok (.ishl, 1) := dk_120 (dk_at dksX9_goesOn_3 6 rfl rfl)
theorem dX9_goesOn_79 : decode cX9_goesOn 79 = .ok (.istore 7, 2) := dk_54 7 (dk_at dksX9_goesOn_3 7 rfl rfl)
theorem dX9_goesOn_81 : decode cX9_goesOn 81 = .ok (.iload 7, 2) := dk_21 7 (dk_at dksX9_goesOn_3 9 rfl rfl)
theorem dX9_goesOn_83 : decode cX9_goesOn 83 = .ok (.iconst 1, 1) := dk_4 (dk_at dksX9_goesOn_3 11 rfl rfl)
theorem dX9_goesOn_84 : decode cX9_goesOn 84 = .ok (.ishl, 1) := dk_120 (dk_at dksX9_goesOn_3 12 rfl rfl)
theorem dX9_goesOn_85 : decode cX9_goesOn 85 = .ok (.istore 8, 2) := dk_54 8 (dk_at dksX9_goesOn_3 13 rfl rfl)
theorem dX9_goesOn_87 : decode cX9_goesOn 87 = .ok (.iload_n 1, 1) := dk_27 (dk_at dksX9_goesOn_3 15 rfl rfl)
theorem dX9_goesOn_88 : decode cX9_goesOn 88 = .ok (.iload 7, 2) := dk_21 7 (dk_at dksX9_goesOn_3 16 rfl rfl)
theorem dX9_goesOn_90 : decode cX9_goesOn 90 = .ok (.iand, 1) := dk_126 (dk_at dksX9_goesOn_3 18 rfl rfl)
theorem dX9_goesOn_91 : decode cX9_goesOn 91 = .ok (.ifCond .eq 14, 3) := dk_153 0 14 (dk_at dksX9_goesOn_3 19 rfl rfl)
theorem dX9_goesOn_94 : decode cX9_goesOn 94 = .ok (.iload 5, 2) := dk_21 5 (dk_at dksX9_goesOn_3 22 rfl rfl)
theorem dX9_goesOn_96 : decode cX9_goesOn 96 = .ok (.iload 8, 2) := dk_21 8 (dk_at dksX9_goesOn_4 0 rfl rfl)
theorem dX9_goesOn_98 : decode cX9_goesOn 98 = .ok (.sipush 256, 3) := dk_17 1 0 (dk_at dksX9_goesOn_4 2 rfl rfl)
theorem dX9_goesOn_101 : decode cX9_goesOn 101 = .ok (.ior, 1) := dk_128 (dk_at dksX9_goesOn_4 5 rfl rfl)
theorem dX9_goesOn_102 : decode cX9_goesOn 102 = .ok (.ior, 1) := dk_128 (dk_at dksX9_goesOn_4 6 rfl rfl)
theorem dX9_goesOn_103 : decode cX9_goesOn 103 = .ok (.istore 5, 2) := dk_54 5 (dk_at dksX9_goesOn_4 7 rfl rfl)
theorem dX9_goesOn_105 : decode cX9_goesOn 105 = .ok (.iload_n 1, 1) := dk_27 (dk_at dksX9_goesOn_4 9 rfl rfl)
theorem dX9_goesOn_106 : decode cX9_goesOn 106 = .ok (.iload 8, 2) := dk_21 8 (dk_at dksX9_goesOn_4 10 rfl rfl)
theorem dX9_goesOn_108 : decode cX9_goesOn 108 = .ok (.iand, 1) := dk_126 (dk_at dksX9_goesOn_4 12 rfl rfl)
theorem dX9_goesOn_109 : decode cX9_goesOn 109 = .ok (.ifCond .eq 14, 3) := dk_153 0 14 (dk_at dksX9_goesOn_4 13 rfl rfl)
theorem dX9_goesOn_112 : decode cX9_goesOn 112 = .ok (.iload 5, 2) := dk_21 5 (dk_at dksX9_goesOn_4 16 rfl rfl)
theorem dX9_goesOn_114 : decode cX9_goesOn 114 = .ok (.iload 7, 2) := dk_21 7 (dk_at dksX9_goesOn_4 18 rfl rfl)
theorem dX9_goesOn_116 : decode cX9_goesOn 116 = .ok (.sipush 256, 3) := dk_17 1 0 (dk_at dksX9_goesOn_4 20 rfl rfl)
theorem dX9_goesOn_119 : decode cX9_goesOn 119 = .ok (.ior, 1) := dk_128 (dk_at dksX9_goesOn_4 23 rfl rfl)
theorem dX9_goesOn_120 : decode cX9_goesOn 120 = .ok (.ior, 1) := dk_128 (dk_at dksX9_goesOn_5 0 rfl rfl)
theorem dX9_goesOn_121 : decode cX9_goesOn 121 = .ok (.istore 5, 2) := dk_54 5 (dk_at dksX9_goesOn_5 1 rfl rfl)
theorem dX9_goesOn_123 : decode cX9_goesOn 123 = .ok (.iload_n 1, 1) := dk_27 (dk_at dksX9_goesOn_5 3 rfl rfl)
theorem dX9_goesOn_124 : decode cX9_goesOn 124 = .ok (.i2l, 1) := dk_133 (dk_at dksX9_goesOn_5 4 rfl rfl)
theorem dX9_goesOn_125 : decode cX9_goesOn 125 = .ok (.bipush 8, 2) := dk_16 8 (dk_at dksX9_goesOn_5 5 rfl rfl)
theorem dX9_goesOn_127 : decode cX9_goesOn 127 = .ok (.invokestatic 260, 3) := dk_184 1 4 (dk_at dksX9_goesOn_5 7 rfl rfl)
theorem dX9_goesOn_130 : decode cX9_goesOn 130 = .ok (.ifCond .eq 13, 3) := dk_153 0 13 (dk_at dksX9_goesOn_5 10 rfl rfl)
theorem dX9_goesOn_133 : decode cX9_goesOn 133 = .ok (.iload 5, 2) := dk_21 5 (dk_at dksX9_goesOn_5 13 rfl rfl)
theorem dX9_goesOn_135 : decode cX9_goesOn 135 = .ok (.iload 7, 2) := dk_21 7 (dk_at dksX9_goesOn_5 15 rfl rfl)
theorem dX9_goesOn_137 : decode cX9_goesOn 137 = .ok (.iload 8, 2) := dk_21 8 (dk_at dksX9_goesOn_5 17 rfl rfl)
theorem dX9_goesOn_139 : decode cX9_goesOn 139 = .ok (.ior, 1) := dk_128 (dk_at dksX9_goesOn_5 19 rfl rfl)
theorem dX9_goesOn_140 : decode cX9_goesOn 140 = .ok (.ior, 1) := dk_128 (dk_at dksX9_goesOn_5 20 rfl rfl)
theorem dX9_goesOn_141 : decode cX9_goesOn 141 = .ok (.istore 5, 2) := dk_54 5 (dk_at dksX9_goesOn_5 21 rfl rfl)
theorem dX9_goesOn_143 : decode cX9_goesOn 143 = .ok (.iload 5, 2) := dk_21 5 (dk_at dksX9_goesOn_6 0 rfl rfl)
theorem dX9_goesOn_145 : decode cX9_goesOn 145 = .ok (.ireturn, 1) := dk_172 (dk_at dksX9_goesOn_6 2 rfl rfl)
def dkwX9_way_2 : List UInt8 := [42, 180, 0, 51, 29, 46, 167, 0, 4, 2, 172]
abbrev dktX9_way_2 : List UInt8 := dkwX9_way_2 ++ []
def dkwX9_way_1 : List UInt8 := [16, 254, 172, 29, 156, 0, 6, 16, 253, 172, 42, 27, 28, 182, 1, 89, 54, 4, 29, 21, 4, 162, 0, 12]
abbrev dktX9_way_1 : List UInt8 := dkwX9_way_1 ++ dktX9_way_2
def dkwX9_way_0 : List UInt8 := [42, 3, 181, 0, 1, 42, 27, 133, 182, 0, 245, 153, 0, 12, 42, 28, 133, 182, 1, 83, 154, 0, 6]
abbrev dktX9_way_0 : List UInt8 := dkwX9_way_0 ++ dktX9_way_1
theorem dksX9_way_0 : cX9_way.data.toList.drop 0 = dktX9_way_0 := by decide +kernel
theorem dksX9_way_1 : cX9_way.data.toList.drop 23 = dktX9_way_1 := dk_seg dksX9_way_0 23 rfl rfl
theorem dksX9_way_2 : cX9_way.data.toList.drop 47 = dktX9_way_2 := dk_seg dksX9_way_1 24 rfl rfl
theorem dX9_way_0 : decode cX9_way 0 = .ok (.aload_n 0, 1) := dk_42 (dk_at dksX9_way_0 0 rfl rfl)
theorem dX9_way_1 : decode cX9_way 1 = .ok (.iconst 0, 1) := dk_3 (dk_at dksX9_way_0 1 rfl rfl)
theorem dX9_way_2 : decode cX9_way 2 = .ok (.putfield 1, 3) := dk_181 0 1 (dk_at dksX9_way_0 2 rfl rfl)
theorem dX9_way_5 : decode cX9_way 5 = .ok (.aload_n 0, 1) := dk_42 (dk_at dksX9_way_0 5 rfl rfl)
theorem dX9_way_6 : decode cX9_way 6 = .ok (.iload_n 1, 1) := dk_27 (dk_at dksX9_way_0 6 rfl rfl)
theorem dX9_way_7 : decode cX9_way 7 = .ok (.i2l, 1) := dk_133 (dk_at dksX9_way_0 7 rfl rfl)
theorem dX9_way_8 : decode cX9_way 8 = .ok (.invokevirtual 245, 3) := dk_182 0 245 (dk_at dksX9_way_0 8 rfl rfl)
theorem dX9_way_11 : decode cX9_way 11 = .ok (.ifCond .eq 12, 3) := dk_153 0 12 (dk_at dksX9_way_0 11 rfl rfl)
theorem dX9_way_14 : decode cX9_way 14 = .ok (.aload_n 0, 1) := dk_42 (dk_at dksX9_way_0 14 rfl rfl)
theorem dX9_way_15 : decode cX9_way 15 = .ok (.iload_n 2, 1) := dk_28 (dk_at dksX9_way_0 15 rfl rfl)
theorem dX9_way_16 : decode cX9_way 16 = .ok (.i2l, 1) := dk_133 (dk_at dksX9_way_0 16 rfl rfl)
theorem dX9_way_17 : decode cX9_way 17 = .ok (.invokevirtual 339, 3) := dk_182 1 83 (dk_at dksX9_way_0 17 rfl rfl)
theorem dX9_way_20 : decode cX9_way 20 = .ok (.ifCond .ne 6, 3) := dk_154 0 6 (dk_at dksX9_way_0 20 rfl rfl)
theorem dX9_way_23 : decode cX9_way 23 = .ok (.bipush (-2), 2) := dk_16 254 (dk_at dksX9_way_1 0 rfl rfl)
theorem dX9_way_25 : decode cX9_way 25 = .ok (.ireturn, 1) := dk_172 (dk_at dksX9_way_1 2 rfl rfl)
theorem dX9_way_26 : decode cX9_way 26 = .ok (.iload_n 3, 1) := dk_29 (dk_at dksX9_way_1 3 rfl rfl)
theorem dX9_way_27 : decode cX9_way 27 = .ok (.ifCond .ge 6, 3) := dk_156 0 6 (dk_at dksX9_way_1 4 rfl rfl)
theorem dX9_way_30 : decode cX9_way 30 = .ok (.bipush (-3), 2) := dk_16 253 (dk_at dksX9_way_1 7 rfl rfl)
theorem dX9_way_32 : decode cX9_way 32 = .ok (.ireturn, 1) := dk_172 (dk_at dksX9_way_1 9 rfl rfl)
theorem dX9_way_33 : decode cX9_way 33 = .ok (.aload_n 0, 1) := dk_42 (dk_at dksX9_way_1 10 rfl rfl)
theorem dX9_way_34 : decode cX9_way 34 = .ok (.iload_n 1, 1) := dk_27 (dk_at dksX9_way_1 11 rfl rfl)
theorem dX9_way_35 : decode cX9_way 35 = .ok (.iload_n 2, 1) := dk_28 (dk_at dksX9_way_1 12 rfl rfl)
theorem dX9_way_36 : decode cX9_way 36 = .ok (.invokevirtual 345, 3) := dk_182 1 89 (dk_at dksX9_way_1 13 rfl rfl)
theorem dX9_way_39 : decode cX9_way 39 = .ok (.istore 4, 2) := dk_54 4 (dk_at dksX9_way_1 16 rfl rfl)
theorem dX9_way_41 : decode cX9_way 41 = .ok (.iload_n 3, 1) := dk_29 (dk_at dksX9_way_1 18 rfl rfl)
theorem dX9_way_42 : decode cX9_way 42 = .ok (.iload 4, 2) := dk_21 4 (dk_at dksX9_way_1 19 rfl rfl)
theorem dX9_way_44 : decode cX9_way 44 = .ok (.if_icmp .ge 12, 3) := dk_162 0 12 (dk_at dksX9_way_1 21 rfl rfl)
theorem dX9_way_47 : decode cX9_way 47 = .ok (.aload_n 0, 1) := dk_42 (dk_at dksX9_way_2 0 rfl rfl)
theorem dX9_way_48 : decode cX9_way 48 = .ok (.getfield 51, 3) := dk_180 0 51 (dk_at dksX9_way_2 1 rfl rfl)
theorem dX9_way_51 : decode cX9_way 51 = .ok (.iload_n 3, 1) := dk_29 (dk_at dksX9_way_2 4 rfl rfl)
theorem dX9_way_52 : decode cX9_way 52 = .ok (.iaload, 1) := dk_46 (dk_at dksX9_way_2 5 rfl rfl)
theorem dX9_way_53 : decode cX9_way 53 = .ok (.goto 4, 3) := dk_167 0 4 (dk_at dksX9_way_2 6 rfl rfl)
theorem dX9_way_56 : decode cX9_way 56 = .ok (.iconst (-1), 1) := dk_2 (dk_at dksX9_way_2 9 rfl rfl)
theorem dX9_way_57 : decode cX9_way 57 = .ok (.ireturn, 1) := dk_172 (dk_at dksX9_way_2 10 rfl rfl)
