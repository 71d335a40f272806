set_option maxRecDepth 100000
def dkwX0_init_18 : List UInt8 := [83, 181, 0, 119, 42, 180, 0, 60, 182, 0, 122, 177]
abbrev dktX0_init_18 : List UInt8 := dkwX0_init_18 ++ []
def dkwX0_init_17 : List UInt8 := [189, 0, 57, 89, 3, 187, 0, 57, 89, 42, 183, 0, 59, 83, 89, 4, 187, 0, 57, 89, 42, 183, 0, 59]
abbrev dktX0_init_17 : List UInt8 := dkwX0_init_17 ++ dktX0_init_18
def dkwX0_init_16 : List UInt8 := [89, 6, 187, 0, 108, 89, 183, 0, 110, 83, 181, 0, 111, 42, 5, 189, 0, 22, 181, 0, 115, 42, 5]
abbrev dktX0_init_16 : List UInt8 := dkwX0_init_16 ++ dktX0_init_17
def dkwX0_init_15 : List UInt8 := [183, 0, 110, 83, 89, 4, 187, 0, 108, 89, 183, 0, 110, 83, 89, 5, 187, 0, 108, 89, 183, 0, 110, 83]
abbrev dktX0_init_15 : List UInt8 := dkwX0_init_15 ++ dktX0_init_16
def dkwX0_init_14 : List UInt8 := [188, 10, 181, 0, 102, 42, 16, 90, 188, 11, 181, 0, 105, 42, 7, 189, 0, 108, 89, 3, 187, 0, 108, 89]
abbrev dktX0_init_14 : List UInt8 := dkwX0_init_14 ++ dktX0_init_15
def dkwX0_init_13 : List UInt8 := [188, 10, 181, 0, 92, 42, 16, 9, 188, 11, 181, 0, 95, 42, 16, 9, 188, 11, 181, 0, 99, 42, 16, 6]
abbrev dktX0_init_13 : List UInt8 := dkwX0_init_13 ++ dktX0_init_14
def dkwX0_init_12 : List UInt8 := [188, 10, 181, 0, 83, 42, 16, 6, 188, 10, 181, 0, 86, 42, 16, 61, 188, 10, 181, 0, 89, 42, 16, 60]
abbrev dktX0_init_12 : List UInt8 := dkwX0_init_12 ++ dktX0_init_13
def dkwX0_init_11 : List UInt8 := [187, 0, 57, 89, 42, 183, 0, 59, 83, 181, 0, 75, 42, 16, 48, 188, 10, 181, 0, 79, 42, 16, 96]
abbrev dktX0_init_11 : List UInt8 := dkwX0_init_11 ++ dktX0_init_12
def dkwX0_init_10 : List UInt8 := [187, 0, 57, 89, 42, 183, 0, 59, 83, 89, 16, 8, 187, 0, 57, 89, 42, 183, 0, 59, 83, 89, 16, 9]
abbrev dktX0_init_10 : List UInt8 := dkwX0_init_10 ++ dktX0_init_11
def dkwX0_init_9 : List UInt8 := [187, 0, 57, 89, 42, 183, 0, 59, 83, 89, 16, 6, 187, 0, 57, 89, 42, 183, 0, 59, 83, 89, 16, 7]
abbrev dktX0_init_9 : List UInt8 := dkwX0_init_9 ++ dktX0_init_10
def dkwX0_init_8 : List UInt8 := [187, 0, 57, 89, 42, 183, 0, 59, 83, 89, 7, 187, 0, 57, 89, 42, 183, 0, 59, 83, 89, 8]
abbrev dktX0_init_8 : List UInt8 := dkwX0_init_8 ++ dktX0_init_9
def dkwX0_init_7 : List UInt8 := [187, 0, 57, 89, 42, 183, 0, 59, 83, 89, 5, 187, 0, 57, 89, 42, 183, 0, 59, 83, 89, 6]
abbrev dktX0_init_7 : List UInt8 := dkwX0_init_7 ++ dktX0_init_8
def dkwX0_init_6 : List UInt8 := [42, 2, 181, 0, 71, 42, 16, 10, 189, 0, 57, 89, 3, 187, 0, 57, 89, 42, 183, 0, 59, 83, 89, 4]
abbrev dktX0_init_6 : List UInt8 := dkwX0_init_6 ++ dktX0_init_7
def dkwX0_init_5 : List UInt8 := [181, 0, 60, 42, 187, 0, 57, 89, 42, 183, 0, 59, 181, 0, 64, 42, 17, 3, 132, 188, 8, 181, 0, 67]
abbrev dktX0_init_5 : List UInt8 := dkwX0_init_5 ++ dktX0_init_6
def dkwX0_init_4 : List UInt8 := [187, 0, 54, 89, 42, 4, 183, 0, 56, 83, 181, 0, 1, 42, 187, 0, 57, 89, 42, 183, 0, 59]
abbrev dktX0_init_4 : List UInt8 := dkwX0_init_4 ++ dktX0_init_5
def dkwX0_init_3 : List UInt8 := [187, 0, 51, 89, 42, 183, 0, 53, 83, 89, 8, 187, 0, 54, 89, 42, 3, 183, 0, 56, 83, 89, 16, 6]
abbrev dktX0_init_3 : List UInt8 := dkwX0_init_3 ++ dktX0_init_4
def dkwX0_init_2 : List UInt8 := [187, 0, 41, 89, 42, 2, 183, 0, 43, 83, 89, 6, 187, 0, 46, 89, 42, 183, 0, 48, 83, 89, 7]
abbrev dktX0_init_2 : List UInt8 := dkwX0_init_2 ++ dktX0_init_3
def dkwX0_init_1 : List UInt8 := [187, 0, 41, 89, 42, 3, 183, 0, 43, 83, 89, 4, 187, 0, 41, 89, 42, 4, 183, 0, 43, 83, 89, 5]
abbrev dktX0_init_1 : List UInt8 := dkwX0_init_1 ++ dktX0_init_2
def dkwX0_init_0 : List UInt8 := [42, 183, 0, 34, 42, 187, 0, 22, 89, 183, 0, 40, 181, 0, 17, 42, 16, 7, 189, 0, 8, 89, 3]
abbrev dktX0_init_0 : List UInt8 := dkwX0_init_0 ++ dktX0_init_1
theorem dksX0_init_0 : cX0_init.data.toList.drop 0 = dktX0_init_0 := by decide +kernel
theorem dksX0_init_1 : cX0_init.data.toList.drop 23 = dktX0_init_1 := dk_seg dksX0_init_0 23 rfl rfl
theorem dksX0_init_2 : cX0_init.data.toList.drop 47 = dktX0_init_2 := dk_seg dksX0_init_1 24 rfl rfl
theorem dksX0_init_3 : cX0_init.data.toList.drop 70 = dktX0_init_3 := dk_seg dksX0_init_2 23 rfl rfl
theorem dksX0_init_4 : cX0_init.data.toList.drop 94 = dktX0_init_4 := dk_seg dksX0_init_3 24 rfl rfl
theorem dksX0_init_5 : cX0_init.data.toList.drop 116 = dktX0_init_5 := dk_seg dksX0_init_4 22 rfl rfl
theorem dksX0_init_6 : cX0_init.data.toList.drop 140 = dktX0_init_6 := dk_seg dksX0_init_5 24 rfl rfl
theorem dksX0_init_7 : cX0_init.data.toList.drop 164 = dktX0_init_7 := dk_seg dksX0_init_6 24 rfl rfl
theorem dksX0_init_8 : cX0_init.data.toList.drop 186 = dktX0_init_8 := dk_seg dksX0_init_7 22 rfl rfl
theorem dksX0_init_9 : cX0_init.data.toList.drop 208 = dktX0_init_9 := dk_seg dksX0_init_8 22 rfl rfl
theorem dksX0_init_10 : cX0_init.data.toList.drop 232 = dktX0_init_10 := dk_seg dksX0_init_9 24 rfl rfl
theorem dksX0_init_11 : cX0_init.data.toList.drop 256 = dktX0_init_11 := dk_seg dksX0_init_10 24 rfl rfl
theorem dksX0_init_12 : cX0_init.data.toList.drop 279 = dktX0_init_12 := dk_seg dksX0_init_11 23 rfl rfl
theorem dksX0_init_13 : cX0_init.data.toList.drop 303 = dktX0_init_13 := dk_seg dksX0_init_12 24 rfl rfl
theorem dksX0_init_14 : cX0_init.data.toList.drop 327 = dktX0_init_14 := dk_seg dksX0_init_13 24 rfl rfl
theorem dksX0_init_15 : cX0_init.data.toList.drop 351 = dktX0_init_15 := dk_seg dksX0_init_14 24 rfl rfl
theorem dksX0_init_16 : cX0_init.data.toList.drop 375 = dktX0_init_16 := dk_seg dksX0_init_15 24 rfl rfl
theorem dksX0_init_17 : cX0_init.data.toList.drop 398 = dktX0_init_17 := dk_seg dksX0_init_16 23 rfl rfl
theorem dksX0_init_18 : cX0_init.data.toList.drop 422 = dktX0_init_18 := dk_seg dksX0_init_17 24 rfl rfl
theorem dX0_init_0 : decode cX0_init 0 = .ok (.aload_n 0, 1) := dk_42 (dk_at dksX0_init_0 0 rfl rfl)
theorem dX0_init_1 : decode cX0_init 1 = .ok (.invokespecial 34, 3) := dk_183 0 34 (dk_at dksX0_init_0 1 rfl rfl)
theorem dX0_init_4 : decode cX0_init 4 = .ok (.aload_n 0, 1) := dk_42 (dk_at dksX0_init_0 4 rfl rfl)
theorem dX0_init_5 : decode cX0_init 5 = .ok (.new 22, 3) := dk_187 0 22 (dk_at dksX0_init_0 5 rfl rfl)
theorem dX0_init_8 : decode cX0_init 8 = .ok (.dup, 1) := dk_89 (dk_at dksX0_init_0 8 rfl rfl)
theorem dX0_init_9 : decode cX0_init 9 = .ok (.invokespecial 40, 3) := dk_183 0 40 (dk_at dksX0_init_0 9 rfl rfl)
theorem dX0_init_12 : decode cX0_init 12 = .ok (.putfield 17, 3) := dk_181 0 17 (dk_at dksX0_init_0 12 rfl rfl)
theorem dX0_init_15 : decode cX0_init 15 = .ok (.aload_n 0, 1) := dk_42 (dk_at dksX0_init_0 15 rfl rfl)
theorem dX0_init_16 : decode cX0_init 16 = .ok (.bipush 7, 2) := dk_16 7 (dk_at dksX0_init_0 16 rfl rfl)
theorem dX0_init_18 : decode cX0_init 18 = .ok (.anewarray 8, 3) := dk_189 0 8 (dk_at dksX0_init_0 18 rfl rfl)
theorem dX0_init_21 : decode cX0_init 21 = .ok (.dup, 1) := dk_89 (dk_at dksX0_init_0 21 rfl rfl)
theorem dX0_init_22 : decode cX0_init 22 = .ok (.iconst 0, 1) := dk_3 (dk_at dksX0_init_0 22 rfl rfl)
theorem dX0_init_23 : decode cX0_init 23 = .ok (.new 41, 3) := dk_187 0 41 (dk_at dksX0_init_1 0 rfl rfl)
theorem dX0_init_26 : decode cX0_init 26 = .ok (.dup, 1) := dk_89 (dk_at dksX0_init_1 3 rfl rfl)
theorem dX0_init_27 : decode cX0_init 27 = .ok (.aload_n 0, 1) := dk_42 (dk_at dksX0_init_1 4 rfl rfl)
theorem dX0_init_28 : decode cX0_init 28 = .ok (.iconst 0, 1) := dk_3 (dk_at dksX0_init_1 5 rfl rfl)
theorem dX0_init_29 : decode cX0_init 29 = .ok (.invokespecial 43, 3) := dk_183 0 43 (dk_at dksX0_init_1 6 rfl rfl)
theorem dX0_init_32 : decode cX0_init 32 = .ok (.aastore, 1) := dk_83 (dk_at dksX0_init_1 9 rfl rfl)
theorem dX0_init_33 : decode cX0_init 33 = .ok (.dup, 1) := dk_89 (dk_at dksX0_init_1 10 rfl rfl)
theorem dX0_init_34 : decode cX0_init 34 = .ok (.iconst 1, 1) := dk_4 (dk_at dksX0_init_1 11 rfl rfl)
theorem dX0_init_35 : decode cX0_init 35 = .ok (.new 41, 3) := dk_187 0 41 (dk_at dksX0_init_1 12 rfl rfl)
theorem dX0_init_38 : decode cX0_init 38 = .ok (.dup, 1) := dk_89 (dk_at dksX0_init_1 15 rfl rfl)
theorem dX0_init_39 : decode cX0_init 39 = .ok (.aload_n 0, 1) := dk_42 (dk_at dksX0_init_1 16 rfl rfl)
theorem dX0_init_40 : decode cX0_init 40 = .ok (.iconst 1, 1) := dk_4 (dk_at dksX0_init_1 17 rfl rfl)
theorem dX0_init_41 : decode cX0_init 41 = .ok (.invokespecial 43, 3) := dk_183 0 43 (dk_at dksX0_init_1 18 rfl rfl)
theorem dX0_init_44 : decode cX0_init 44 = .ok (.aastore, 1) := dk_83 (dk_at dksX0_init_1 21 rfl rfl)
theorem dX0_init_45 : decode cX0_init 45 = .ok (.dup, 1) := dk_89 (dk_at dksX0_init_1 22 rfl rfl)
theorem dX0_init_46 : decode cX0_init 46 = .ok (.iconst 2, 1) := dk_5 (dk_at dksX0_init_1 23 rfl rfl)
theorem dX0_init_47 : decode cX0_init 47 = .ok (.new 41, 3) := dk_187 0 41 (dk_at dksX0_init_2 0 rfl rfl)
theorem dX0_init_50 : decode cX0_init 50 = .ok (.dup, 1) := dk_89 (dk_at dksX0_init_2 3 rfl rfl)
theorem dX0_init_51 : decode cX0_init 51 = .ok (.aload_n 0, 1) := dk_42 (dk_at dksX0_init_2 4 rfl rfl)
theorem dX0_init_52 : decode cX0_init 52 = .ok (.iconst (-1), 1) := dk_2 (dk_at dksX0_init_2 5 rfl rfl)
theorem dX0_init_53 : decode cX0_init 53 = .ok (.invokespecial 43, 3) := dk_183 0 43 (dk_at dksX0_init_2 6 rfl rfl)
theorem dX0_init_56 : decode cX0_init 56 = .ok (.aastore, 1) := dk_83 (dk_at dksX0_init_2 9 rfl rfl)
theorem dX0_init_57 : decode cX0_init 57 = .ok (.dup, 1) := dk_89 (dk_at dksX0_init_2 10 rfl rfl)
theorem dX0_init_58 : decode cX0_init 58 = .ok (.iconst 3, 1) := dk_6 (dk_at dksX0_init_2 11 rfl rfl)
theorem dX0_init_59 : decode cX0_init 59 = .ok (.new 46, 3) := dk_187 0 46 (dk_at dksX0_init_2 12 rfl rfl)
theorem dX0_init_62 : decode cX0_init 62 = .ok (.dup, 1) := dk_89 (dk_at dksX0_init_2 15 rfl rfl)
theorem dX0_init_63 : decode cX0_init 63 = .ok (.aload_n 0, 1) := dk_42 (dk_at dksX0_init_2 16 rfl rfl)
theorem dX0_init_64 : decode cX0_init 64 = .ok (.invokespecial 48, 3) := dk_183 0 48 (dk_at dksX0_init_2 17 rfl rfl)
theorem dX0_init_67 : decode cX0_init 67 = .ok (.aastore, 1) := dk_83 (dk_at dksX0_init_2 20 rfl rfl)
theorem dX0_init_68 : decode cX0_init 68 = .ok (.dup, 1) := dk_89 (dk_at dksX0_init_2 21 rfl rfl)
theorem dX0_init_69 : decode cX0_init 69 = .ok (.iconst 4, 1) := dk_7 (dk_at dksX0_init_2 22 rfl rfl)
theorem dX0_init_70 : decode cX0_init 70 = .ok (.new 51, 3) := dk_187 0 51 (dk_at dksX0_init_3 0 rfl rfl)
theorem dX0_init_73 : decode cX0_init 73 = .ok (.dup, 1) := dk_89 (dk_at dksX0_init_3 3 rfl rfl)
theorem dX0_init_74 : decode cX0_init 74 = .ok (.aload_n 0, 1) := dk_42 (dk_at dksX0_init_3 4 rfl rfl)
theorem dX0_init_75 : decode cX0_init 75 = .ok (.invokespecial 53, 3) := dk_183 0 53 (dk_at dksX0_init_3 5 rfl rfl)
theorem dX0_init_78 : decode cX0_init 78 = .ok (.aastore, 1) := dk_83 (dk_at dksX0_init_3 8 rfl rfl)
theorem dX0_init_79 : decode cX0_init 79 = .ok (.dup, 1) := dk_89 (dk_at dksX0_init_3 9 rfl rfl)
theorem dX0_init_80 : decode cX0_init 80 = .ok (.iconst 5, 1) := dk_8 (dk_at dksX0_init_3 10 rfl rfl)
theorem dX0_init_81 : decode cX0_init 81 = .ok (.new 54, 3) := dk_187 0 54 (dk_at dksX0_init_3 11 rfl rfl)
theorem dX0_init_84 : decode cX0_init 84 = .ok (.dup, 1) := dk_89 (dk_at dksX0_init_3 14 rfl rfl)
theorem dX0_init_85 : decode cX0_init 85 = .ok (.aload_n 0, 1) := dk_42 (dk_at dksX0_init_3 15 rfl rfl)
theorem dX0_init_86 : decode cX0_init 86 = .ok (.iconst 0, 1) := dk_3 (dk_at dksX0_init_3 16 rfl rfl)
theorem dX0_init_87 : decode cX0_init 87 = .ok (.invokespecial 56, 3) := dk_183 0 56 (dk_at dksX0_init_3 17 rfl rfl)
theorem dX0_init_90 : decode cX0_init 90 = .ok (.aastore, 1) := dk_83 (dk_at dksX0_init_3 20 rfl rfl)
theorem dX0_init_91 : decode cX0_init 91 = .ok (.dup, 1) := dk_89 (dk_at dksX0_init_3 21 rfl rfl)
theorem dX0_init_92 : decode cX0_init 92 = .ok (.bipush 6, 2) := dk_16 6 (dk_at dksX0_init_3 22 rfl rfl)
theorem dX0_init_94 : decode cX0_init 94 = .ok (.new 54, 3) := dk_187 0 54 (dk_at dksX0_init_4 0 rfl rfl)
theorem dX0_init_97 : decode cX0_init 97 = .ok (.dup, 1) := dk_89 (dk_at dksX0_init_4 3 rfl rfl)
theorem dX0_init_98 : decode cX0_init 98 = .ok (.aload_n 0, 1) := dk_42 (dk_at dksX0_init_4 4 rfl rfl)
theorem dX0_init_99 : decode cX0_init 99 = .ok (.iconst 1, 1) := dk_4 (dk_at dksX0_init_4 5 rfl rfl)
theorem dX0_init_100 : decode cX0_init 100 = .ok (.invokespecial 56, 3) := dk_183 0 56 (dk_at dksX0_init_4 6 rfl rfl)
theorem dX0_init_103 : decode cX0_init 103 = .ok (.aastore, 1) := dk_83 (dk_at dksX0_init_4 9 rfl rfl)
theorem dX0_init_104 : decode cX0_init 104 = .ok (.putfield 1, 3) := dk_181 0 1 (dk_at dksX0_init_4 10 rfl rfl)
theorem dX0_init_107 : decode cX0_init 107 = .ok (.aload_n 0, 1) := dk_42 (dk_at dksX0_init_4 13 rfl rfl)
theorem dX0_init_108 : decode cX0_init 108 = .ok (.new 57, 3) := dk_187 0 57 (dk_at dksX0_init_4 14 rfl rfl)
theorem dX0_init_111 : decode cX0_init 111 = .ok (.dup, 1) := dk_89 (dk_at dksX0_init_4 17 rfl rfl)
theorem dX0_init_112 : decode cX0_init 112 = .ok (.aload_n 0, 1) := dk_42 (dk_at dksX0_init_4 18 rfl rfl)
theorem dX0_init_113 : decode cX0_init 113 = .ok (.invokespecial 59, 3) := dk_183 0 59 (dk_at dksX0_init_4 19 rfl rfl)
theorem dX0_init_116 : decode cX0_init 116 = .ok (.putfield 60, 3) := dk_181 0 60 (dk_at dksX0_init_5 0 rfl rfl)
theorem dX0_init_119 : decode cX0_init 119 = .ok (.aload_n 0, 1) := dk_42 (dk_at dksX0_init_5 3 rfl rfl)
theorem dX0_init_120 : decode cX0_init 120 = .ok (.new 57, 3) := dk_187 0 57 (dk_at dksX0_init_5 4 rfl rfl)
theorem dX0_init_123 : decode cX0_init 123 = .ok (.dup, 1) := dk_89 (dk_at dksX0_init_5 7 rfl rfl)
theorem dX0_init_124 : decode cX0_init 124 = .ok (.aload_n 0, 1) := dk_42 (dk_at dksX0_init_5 8 rfl rfl)
theorem dX0_init_125 : decode cX0_init 125 = .ok (.invokespecial 59, 3) := dk_183 0 59 (dk_at dksX0_init_5 9 rfl rfl)
theorem dX0_init_128 : decode cX0_init 128 = .ok (.putfield 64, 3) := dk_181 0 64 (dk_at dksX0_init_5 12 rfl rfl)
theorem dX0_init_131 : decode cX0_init 131 = .ok (.aload_n 0, 1) := dk_42 (dk_at dksX0_init_5 15 rfl rfl)
theorem dX0_init_132 : decode cX0_init 132 = .ok (.sipush 900, 3) := dk_17 3 132 (dk_at dksX0_init_5 16 rfl rfl)
theorem dX0_init_135 : decode cX0_init 135 = .ok (.newarray .byte, 2) := dk_188_8 (dk_at dksX0_init_5 19 rfl rfl)
theorem dX0_init_137 : decode cX0_init 137 = .ok (.putfield 67, 3) := dk_181 0 67 (dk_at dksX0_init_5 21 rfl rfl)
theorem dX0_init_140 : decode cX0_init 140 = .ok (.aload_n 0, 1) := dk_42 (dk_at dksX0_init_6 0 rfl rfl)
theorem dX0_init_141 : decode cX0_init 141 = .ok (.iconst (-1), 1) := dk_2 (dk_at dksX0_init_6 1 rfl rfl)
theorem dX0_init_142 : decode cX0_init 142 = .ok (.putfield 71, 3) := dk_181 0 71 (dk_at dksX0_init_6 2 rfl rfl)
theorem dX0_init_145 : decode cX0_init 145 = .ok (.aload_n 0, 1) := dk_42 (dk_at dksX0_init_6 5 rfl rfl)
theorem dX0_init_146 : decode cX0_init 146 = .ok (.bipush 10, 2) := dk_16 10 (dk_at dksX0_init_6 6 rfl rfl)
theorem dX0_init_148 : decode cX0_init 148 = .ok (.anewarray 57, 3) := dk_189 0 57 (dk_at dksX0_init_6 8 rfl rfl)
theorem dX0_init_151 : decode cX0_init 151 = .ok (.dup, 1) := dk_89 (dk_at dksX0_init_6 11 rfl rfl)
theorem dX0_init_152 : decode cX0_init 152 = .ok (.iconst 0, 1) := dk_3 (dk_at dksX0_init_6 12 rfl rfl)
theorem dX0_init_153 : decode cX0_init 153 = .ok (.new 57, 3) := dk_187 0 57 (dk_at dksX0_init_6 13 rfl rfl)
theorem dX0_init_156 : decode cX0_init 156 = .ok (.dup, 1) := dk_89 (dk_at dksX0_init_6 16 rfl rfl)
theorem dX0_init_157 : decode cX0_init 157 = .ok (.aload_n 0, 1) := dk_42 (dk_at dksX0_init_6 17 rfl rfl)
theorem dX0_init_158 : decode cX0_init 158 = .ok (.invokespecial 59, 3) := dk_183 0 59 (dk_at dksX0_init_6 18 rfl rfl)
theorem dX0_init_161 : decode cX0_init 161 = .ok (.aastore, 1) := dk_83 (dk_at dksX0_init_6 21 rfl rfl)
theorem dX0_init_162 : decode cX0_init 162 = .ok (.dup, 1) := dk_89 (dk_at dksX0_init_6 22 rfl rfl)
theorem dX0_init_163 : decode cX0_init 163 = .ok (.iconst 1, 1) := dk_4 (dk_at dksX0_init_6 23 rfl rfl)
theorem dX0_init_164 : decode cX0_init 164 = .ok (.new 57, 3) := dk_187 0 57 (dk_at dksX0_init_7 0 rfl rfl)
theorem dX0_init_167 : decode cX0_init 167 = .ok (.dup, 1) := dk_89 (dk_at dksX0_init_7 3 rfl rfl)
theorem dX0_init_168 : decode cX0_init 168 = .ok (.aload_n 0, 1) := dk_42 (dk_at dksX0_init_7 4 rfl rfl)
theorem dX0_init_169 : decode cX0_init 169 = .ok (.invokespecial 59, 3) := dk_183 0 59 (dk_at dksX0_init_7 5 rfl rfl)
theorem dX0_init_172 : decode cX0_init 172 = .ok (.aastore, 1) := dk_83 (dk_at dksX0_init_7 8 rfl rfl)
theorem dX0_init_173 : decode cX0_init 173 = .ok (.dup, 1) := dk_89 (dk_at dksX0_init_7 9 rfl rfl)
theorem dX0_init_174 : decode cX0_init 174 = .ok (.iconst 2, 1) := dk_5 (dk_at dksX0_init_7 10 rfl rfl)
theorem dX0_init_175 : decode cX0_init 175 = .ok (.new 57, 3) := dk_187 0 57 (dk_at dksX0_init_7 11 rfl rfl)
theorem dX0_init_178 : decode cX0_init 178 = .ok (.dup, 1) := dk_89 (dk_at dksX0_init_7 14 rfl rfl)
theorem dX0_init_179 : decode cX0_init 179 = .ok (.aload_n 0, 1) := dk_42 (dk_at dksX0_init_7 15 rfl rfl)
theorem dX0_init_180 : decode cX0_init 180 = .ok (.invokespecial 59, 3) := dk_183 0 59 (dk_at dksX0_init_7 16 rfl rfl)
theorem dX0_init_183 : decode cX0_init 183 = .ok (.aastore, 1) := dk_83 (dk_at dksX0_init_7 19 rfl rfl)
theorem dX0_init_184 : decode cX0_init 184 = .ok (.dup, 1) := dk_89 (dk_at dksX0_init_7 20 rfl rfl)
theorem dX0_init_185 : decode cX0_init 185 = .ok (.iconst 3, 1) := dk_6 (dk_at dksX0_init_7 21 rfl rfl)
theorem dX0_init_186 : decode cX0_init 186 = .ok (.new 57, 3) := dk_187 0 57 (dk_at dksX0_init_8 0 rfl rfl)
theorem dX0_init_189 : decode cX0_init 189 = .ok (.dup, 1) := dk_89 (dk_at dksX0_init_8 3 rfl rfl)
theorem dX0_init_190 : decode cX0_init 190 = .ok (.aload_n 0, 1) := dk_42 (dk_at dksX0_init_8 4 rfl rfl)
theorem dX0_init_191 : decode cX0_init 191 = .ok (.invokespecial 59, 3) := dk_183 0 59 (dk_at dksX0_init_8 5 rfl rfl)
theorem dX0_init_194 : decode cX0_init 194 = .ok (.aastore, 1) := dk_83 (dk_at dksX0_init_8 8 rfl rfl)
theorem dX0_init_195 : decode cX0_init 195 = .ok (.dup, 1) := dk_89 (dk_at dksX0_init_8 9 rfl rfl)
theorem dX0_init_196 : decode cX0_init 196 = .ok (.iconst 4, 1) := dk_7 (dk_at dksX0_init_8 10 rfl rfl)
theorem dX0_init_197 : decode cX0_init 197 = .ok (.new 57, 3) := dk_187 0 57 (dk_at dksX0_init_8 11 rfl rfl)
theorem dX0_init_200 : decode cX0_init 200 = .ok (.dup, 1) := dk_89 (dk_at dksX0_init_8 14 rfl rfl)
theorem dX0_init_201 : decode cX0_init 201 = .ok (.aload_n 0, 1) := dk_42 (dk_at dksX0_init_8 15 rfl rfl)
theorem dX0_init_202 : decode cX0_init 202 = .ok (.invokespecial 59, 3) := dk_183 0 59 (dk_at dksX0_init_8 16 rfl rfl)
theorem dX0_init_205 : decode cX0_init 205 = .ok (.aastore, 1) := dk_83 (dk_at dksX0_init_8 19 rfl rfl)
theorem dX0_init_206 : decode cX0_init 206 = .ok (.dup, 1) := dk_89 (dk_at dksX0_init_8 20 rfl rfl)
theorem dX0_init_207 : decode cX0_init 207 = .ok (.iconst 5, 1) := dk_8 (dk_at dksX0_init_8 21 rfl rfl)
theorem dX0_init_208 : decode cX0_init 208 = .ok (.new 57, 3) := dk_187 0 57 (dk_at dksX0_init_9 0 rfl rfl)
theorem dX0_init_211 : decode cX0_init 211 = .ok (.dup, 1) := dk_89 (dk_at dksX0_init_9 3 rfl rfl)
theorem dX0_init_212 : decode cX0_init 212 = .ok (.aload_n 0, 1) := dk_42 (dk_at dksX0_init_9 4 rfl rfl)
theorem dX0_init_213 : decode cX0_init 213 = .ok (.invokespecial 59, 3) := dk_183 0 59 (dk_at dksX0_init_9 5 rfl rfl)
theorem dX0_init_216 : decode cX0_init 216 = .ok (.aastore, 1) := dk_83 (dk_at dksX0_init_9 8 rfl rfl)
theorem dX0_init_217 : decode cX0_init 217 = .ok (.dup, 1) := dk_89 (dk_at dksX0_init_9 9 rfl rfl)
theorem dX0_init_218 : decode cX0_init 218 = .ok (.bipush 6, 2) := dk_16 6 (dk_at dksX0_init_9 10 rfl rfl)
theorem dX0_init_220 : decode cX0_init 220 = .ok (.new 57, 3) := dk_187 0 57 (dk_at dksX0_init_9 12 rfl rfl)
theorem dX0_init_223 : decode cX0_init 223 = .ok (.dup, 1) := dk_89 (dk_at dksX0_init_9 15 rfl rfl)
theorem dX0_init_224 : decode cX0_init 224 = .ok (.aload_n 0, 1) := dk_42 (dk_at dksX0_init_9 16 rfl rfl)
theorem dX0_init_225 : decode cX0_init 225 = .ok (.invokespecial 59, 3) := dk_183 0 59 (dk_at dksX0_init_9 17 rfl rfl)
theorem dX0_init_228 : decode cX0_init 228 = .ok (.aastore, 1) := dk_83 (dk_at dksX0_init_9 20 rfl rfl)
theorem dX0_init_229 : decode cX0_init 229 = .ok (.dup, 1) := dk_89 (dk_at dksX0_init_9 21 rfl rfl)
theorem dX0_init_230 : decode cX0_init 230 = .ok (.bipush 7, 2) := dk_16 7 (dk_at dksX0_init_9 22 rfl rfl)
theorem dX0_init_232 : decode cX0_init 232 = .ok (.new 57, 3) := dk_187 0 57 (dk_at dksX0_init_10 0 rfl rfl)
theorem dX0_init_235 : decode cX0_init 235 = .ok (.dup, 1) := dk_89 (dk_at dksX0_init_10 3 rfl rfl)
theorem dX0_init_236 : decode cX0_init 236 = .ok (.aload_n 0, 1) := dk_42 (dk_at dksX0_init_10 4 rfl rfl)
theorem dX0_init_237 : decode cX0_init 237 = .ok (.invokespecial 59, 3) := dk_183 0 59 (dk_at dksX0_init_10 5 rfl rfl)
theorem dX0_init_240 : decode cX0_init 240 = .ok (.aastore, 1) := dk_83 (dk_at dksX0_init_10 8 rfl rfl)
theorem dX0_init_241 : decode cX0_init 241 = .ok (.dup, 1) := dk_89 (dk_at dksX0_init_10 9 rfl rfl)
theorem dX0_init_242 : decode cX0_init 242 = .ok (.bipush 8, 2) := dk_16 8 (dk_at dksX0_init_10 10 rfl rfl)
theorem dX0_init_244 : decode cX0_init 244 = .ok (.new 57, 3) := dk_187 0 57 (dk_at dksX0_init_10 12 rfl rfl)
theorem dX0_init_247 : decode cX0_init 247 = .ok (.dup, 1) := dk_89 (dk_at dksX0_init_10 15 rfl rfl)
theorem dX0_init_248 : decode cX0_init 248 = .ok (.aload_n 0, 1) := dk_42 (dk_at dksX0_init_10 16 rfl rfl)
theorem dX0_init_249 : decode cX0_init 249 = .ok (.invokespecial 59, 3) := dk_183 0 59 (dk_at dksX0_init_10 17 rfl rfl)
theorem dX0_init_252 : decode cX0_init 252 = .ok (.aastore, 1) := dk_83 (dk_at dksX0_init_10 20 rfl rfl)
theorem dX0_init_253 : decode cX0_init 253 = .ok (.dup, 1) := dk_89 (dk_at dksX0_init_10 21 rfl rfl)
theorem dX0_init_254 : decode cX0_init 254 = .ok (.bipush 9, 2) := dk_16 9 (dk_at dksX0_init_10 22 rfl rfl)
theorem dX0_init_256 : decode cX0_init 256 = .ok (.new 57, 3) := dk_187 0 57 (dk_at dksX0_init_11 0 rfl rfl)
theorem dX0_init_259 : decode cX0_init 259 = .ok (.dup, 1) := dk_89 (dk_at dksX0_init_11 3 rfl rfl)
theorem dX0_init_260 : decode cX0_init 260 = .ok (.aload_n 0, 1) := dk_42 (dk_at dksX0_init_11 4 rfl rfl)
theorem dX0_init_261 : decode cX0_init 261 = .ok (.invokespecial 59, 3) := dk_183 0 59 (dk_at dksX0_init_11 5 rfl rfl)
theorem dX0_init_264 : decode cX0_init 264 = .ok (.aastore, 1) := dk_83 (dk_at dksX0_init_11 8 rfl rfl)
theorem dX0_init_265 : decode cX0_init 265 = .ok (.putfield 75, 3) := dk_181 0 75 (dk_at dksX0_init_11 9 rfl rfl)
theorem dX0_init_268 : decode cX0_init 268 = .ok (.aload_n 0, 1) := dk_42 (dk_at dksX0_init_11 12 rfl rfl)
theorem dX0_init_269 : decode cX0_init 269 = .ok (.bipush 48, 2) := dk_16 48 (dk_at dksX0_init_11 13 rfl rfl)
theorem dX0_init_271 : decode cX0_init 271 = .ok (.newarray .int, 2) := dk_188_10 (dk_at dksX0_init_11 15 rfl rfl)
theorem dX0_init_273 : decode cX0_init 273 = .ok (.putfield 79, 3) := dk_181 0 79 (dk_at dksX0_init_11 17 rfl rfl)
theorem dX0_init_276 : decode cX0_init 276 = .ok (.aload_n 0, 1) := dk_42 (dk_at dksX0_init_11 20 rfl rfl)
theorem dX0_init_277 : decode cX0_init 277 = .ok (.bipush 96, 2) := dk_16 96 (dk_at dksX0_init_11 21 rfl rfl)
theorem dX0_init_279 : decode cX0_init 279 = .ok (.newarray .int, 2) := dk_188_10 (dk_at dksX0_init_12 0 rfl rfl)
theorem dX0_init_281 : decode cX0_init 281 = .ok (.putfield 83, 3) := dk_181 0 83 (dk_at dksX0_init_12 2 rfl rfl)
theorem dX0_init_284 : decode cX0_init 284 = .ok (.aload_n 0, 1) := dk_42 (dk_at dksX0_init_12 5 rfl rfl)
theorem dX0_init_285 : decode cX0_init 285 = .ok (.bipush 6, 2) := dk_16 6 (dk_at dksX0_init_12 6 rfl rfl)
theorem dX0_init_287 : decode cX0_init 287 = .ok (.newarray .int, 2) := dk_188_10 (dk_at dksX0_init_12 8 rfl rfl)
theorem dX0_init_289 : decode cX0_init 289 = .ok (.putfield 86, 3) := dk_181 0 86 (dk_at dksX0_init_12 10 rfl rfl)
theorem dX0_init_292 : decode cX0_init 292 = .ok (.aload_n 0, 1) := dk_42 (dk_at dksX0_init_12 13 rfl rfl)
theorem dX0_init_293 : decode cX0_init 293 = .ok (.bipush 61, 2) := dk_16 61 (dk_at dksX0_init_12 14 rfl rfl)
theorem dX0_init_295 : decode cX0_init 295 = .ok (.newarray .int, 2) := dk_188_10 (dk_at dksX0_init_12 16 rfl rfl)
theorem dX0_init_297 : decode cX0_init 297 = .ok (.putfield 89, 3) := dk_181 0 89 (dk_at dksX0_init_12 18 rfl rfl)
theorem dX0_init_300 : decode cX0_init 300 = .ok (.aload_n 0, 1) := dk_42 (dk_at dksX0_init_12 21 rfl rfl)
theorem dX0_init_301 : decode cX0_init 301 = .ok (.bipush 60, 2) := dk_16 60 (dk_at dksX0_init_12 22 rfl rfl)
theorem dX0_init_303 : decode cX0_init 303 = .ok (.newarray .int, 2) := dk_188_10 (dk_at dksX0_init_13 0 rfl rfl)
theorem dX0_init_305 : decode cX0_init 305 = .ok (.putfield 92, 3) := dk_181 0 92 (dk_at dksX0_init_13 2 rfl rfl)
theorem dX0_init_308 : decode cX0_init 308 = .ok (.aload_n 0, 1) := dk_42 (dk_at dksX0_init_13 5 rfl rfl)
theorem dX0_init_309 : decode cX0_init 309 = .ok (.bipush 9, 2) := dk_16 9 (dk_at dksX0_init_13 6 rfl rfl)
theorem dX0_init_311 : decode cX0_init 311 = .ok (.newarray .long, 2) := dk_188_11 (dk_at dksX0_init_13 8 rfl rfl)
theorem dX0_init_313 : decode cX0_init 313 = .ok (.putfield 95, 3) := dk_181 0 95 (dk_at dksX0_init_13 10 rfl rfl)
theorem dX0_init_316 : decode cX0_init 316 = .ok (.aload_n 0, 1) := dk_42 (dk_at dksX0_init_13 13 rfl rfl)
theorem dX0_init_317 : decode cX0_init 317 = .ok (.bipush 9, 2) := dk_16 9 (dk_at dksX0_init_13 14 rfl rfl)
theorem dX0_init_319 : decode cX0_init 319 = .ok (.newarray .long, 2) := dk_188_11 (dk_at dksX0_init_13 16 rfl rfl)
theorem dX0_init_321 : decode cX0_init 321 = .ok (.putfield 99, 3) := dk_181 0 99 (dk_at dksX0_init_13 18 rfl rfl)
theorem dX0_init_324 : decode cX0_init 324 = .ok (.aload_n 0, 1) := dk_42 (dk_at dksX0_init_13 21 rfl rfl)
theorem dX0_init_325 : decode cX0_init 325 = .ok (.bipush 6, 2) := dk_16 6 (dk_at dksX0_init_13 22 rfl rfl)
theorem dX0_init_327 : decode cX0_init 327 = .ok (.newarray .int, 2) := dk_188_10 (dk_at dksX0_init_14 0 rfl rfl)
theorem dX0_init_329 : decode cX0_init 329 = .ok (.putfield 102, 3) := dk_181 0 102 (dk_at dksX0_init_14 2 rfl rfl)
theorem dX0_init_332 : decode cX0_init 332 = .ok (.aload_n 0, 1) := dk_42 (dk_at dksX0_init_14 5 rfl rfl)
theorem dX0_init_333 : decode cX0_init 333 = .ok (.bipush 90, 2) := dk_16 90 (dk_at dksX0_init_14 6 rfl rfl)
theorem dX0_init_335 : decode cX0_init 335 = .ok (.newarray .long, 2) := dk_188_11 (dk_at dksX0_init_14 8 rfl rfl)
theorem dX0_init_337 : decode cX0_init 337 = .ok (.putfield 105, 3) := dk_181 0 105 (dk_at dksX0_init_14 10 rfl rfl)
theorem dX0_init_340 : decode cX0_init 340 = .ok (.aload_n 0, 1) := dk_42 (dk_at dksX0_init_14 13 rfl rfl)
theorem dX0_init_341 : decode cX0_init 341 = .ok (.iconst 4, 1) := dk_7 (dk_at dksX0_init_14 14 rfl rfl)
theorem dX0_init_342 : decode cX0_init 342 = .ok (.anewarray 108, 3) := dk_189 0 108 (dk_at dksX0_init_14 15 rfl rfl)
theorem dX0_init_345 : decode cX0_init 345 = .ok (.dup, 1) := dk_89 (dk_at dksX0_init_14 18 rfl rfl)
theorem dX0_init_346 : decode cX0_init 346 = .ok (.iconst 0, 1) := dk_3 (dk_at dksX0_init_14 19 rfl rfl)
theorem dX0_init_347 : decode cX0_init 347 = .ok (.new 108, 3) := dk_187 0 108 (dk_at dksX0_init_14 20 rfl rfl)
theorem dX0_init_350 : decode cX0_init 350 = .ok (.dup, 1) := dk_89 (dk_at dksX0_init_14 23 rfl rfl)
theorem dX0_init_351 : decode cX0_init 351 = .ok (.invokespecial 110, 3) := dk_183 0 110 (dk_at dksX0_init_15 0 rfl rfl)
theorem dX0_init_354 : decode cX0_init 354 = .ok (.aastore, 1) := dk_83 (dk_at dksX0_init_15 3 rfl rfl)
theorem dX0_init_355 : decode cX0_init 355 = .ok (.dup, 1) := dk_89 (dk_at dksX0_init_15 4 rfl rfl)
theorem dX0_init_356 : decode cX0_init 356 = .ok (.iconst 1, 1) := dk_4 (dk_at dksX0_init_15 5 rfl rfl)
theorem dX0_init_357 : decode cX0_init 357 = .ok (.new 108, 3) := dk_187 0 108 (dk_at dksX0_init_15 6 rfl rfl)
theorem dX0_init_360 : decode cX0_init 360 = .ok (.dup, 1) := dk_89 (dk_at dksX0_init_15 9 rfl rfl)
theorem dX0_init_361 : decode cX0_init 361 = .ok (.invokespecial 110, 3) := dk_183 0 110 (dk_at dksX0_init_15 10 rfl rfl)
theorem dX0_init_364 : decode cX0_init 364 = .ok (.aastore, 1) := dk_83 (dk_at dksX0_init_15 13 rfl rfl)
theorem dX0_init_365 : decode cX0_init 365 = .ok (.dup, 1) := dk_89 (dk_at dksX0_init_15 14 rfl rfl)
theorem dX0_init_366 : decode cX0_init 366 = .ok (.iconst 2, 1) := dk_5 (dk_at dksX0_init_15 15 rfl rfl)
theorem dX0_init_367 : decode cX0_init 367 = .ok (.new 108, 3) := dk_187 0 108 (dk_at dksX0_init_15 16 rfl rfl)
theorem dX0_init_370 : decode cX0_init 370 = .ok (.dup, 1) := dk_89 (dk_at dksX0_init_15 19 rfl rfl)
theorem dX0_init_371 : decode cX0_init 371 = .ok (.invokespecial 110, 3) := dk_183 0 110 (dk_at dksX0_init_15 20 rfl rfl)
theorem dX0_init_374 : decode cX0_init 374 = .ok (.aastore, 1) := dk_83 (dk_at dksX0_init_15 23 rfl rfl)
theorem dX0_init_375 : decode cX0_init 375 = .ok (.dup, 1) := dk_89 (dk_at dksX0_init_16 0 rfl rfl)
theorem dX0_init_376 : decode cX0_init 376 = .ok (.iconst 3, 1) := dk_6 (dk_at dksX0_init_16 1 rfl rfl)
theorem dX0_init_377 : decode cX0_init 377 = .ok (.new 108, 3) := dk_187 0 108 (dk_at dksX0_init_16 2 rfl rfl)
theorem dX0_init_380 : decode cX0_init 380 = .ok (.dup, 1) := dk_89 (dk_at dksX0_init_16 5 rfl rfl)
theorem dX0_init_381 : decode cX0_init 381 = .ok (.invokespecial 110, 3) := dk_183 0 110 (dk_at dksX0_init_16 6 rfl rfl)
theorem dX0_init_384 : decode cX0_init 384 = .ok (.aastore, 1) := dk_83 (dk_at dksX0_init_16 9 rfl rfl)
theorem dX0_init_385 : decode cX0_init 385 = .ok (.putfield 111, 3) := dk_181 0 111 (dk_at dksX0_init_16 10 rfl rfl)
theorem dX0_init_388 : decode cX0_init 388 = .ok (.aload_n 0, 1) := dk_42 (dk_at dksX0_init_16 13 rfl rfl)
theorem dX0_init_389 : decode cX0_init 389 = .ok (.iconst 2, 1) := dk_5 (dk_at dksX0_init_16 14 rfl rfl)
theorem dX0_init_390 : decode cX0_init 390 = .ok (.anewarray 22, 3) := dk_189 0 22 (dk_at dksX0_init_16 15 rfl rfl)
theorem dX0_init_393 : decode cX0_init 393 = .ok (.putfield 115, 3) := dk_181 0 115 (dk_at dksX0_init_16 18 rfl rfl)
theorem dX0_init_396 : decode cX0_init 396 = .ok (.aload_n 0, 1) := dk_42 (dk_at dksX0_init_16 21 rfl rfl)
theorem dX0_init_397 : decode cX0_init 397 = .ok (.iconst 2, 1) := dk_5 (dk_at dksX0_init_16 22 rfl rfl)
theorem dX0_init_398 : decode cX0_init 398 = .ok (.anewarray 57, 3) := dk_189 0 57 (dk_at dksX0_init_17 0 rfl rfl)
theorem dX0_init_401 : decode cX0_init 401 = .ok (.dup, 1) := dk_89 (dk_at dksX0_init_17 3 rfl rfl)
theorem dX0_init_402 : decode cX0_init 402 = .ok (.iconst 0, 1) := dk_3 (dk_at dksX0_init_17 4 rfl rfl)
theorem dX0_init_403 : decode cX0_init 403 = .ok (.new 57, 3) := dk_187 0 57 (dk_at dksX0_init_17 5 rfl rfl)
theorem dX0_init_406 : decode cX0_init 406 = .ok (.dup, 1) := dk_89 (dk_at dksX0_init_17 8 rfl rfl)
theorem dX0_init_407 : decode cX0_init 407 = .ok (.aload_n 0, 1) := dk_42 (dk_at dksX0_init_17 9 rfl rfl)
theorem dX0_init_408 : decode cX0_init 408 = .ok (.invokespecial 59, 3) := dk_183 0 59 (dk_at dksX0_init_17 10 rfl rfl)
theorem dX0_init_411 : decode cX0_init 411 = .ok (.aastore, 1) := dk_83 (dk_at dksX0_init_17 13 rfl rfl)
theorem dX0_init_412 : decode cX0_init 412 = .ok (.dup, 1) := dk_89 (dk_at dksX0_init_17 14 rfl rfl)
theorem dX0_init_413 : decode cX0_init 413 = .ok (.iconst 1, 1) := dk_4 (dk_at dksX0_init_17 15 rfl rfl)
theorem dX0_init_414 : decode cX0_init 414 = .ok (.new 57, 3) := dk_187 0 57 (dk_at dksX0_init_17 16 rfl rfl)
theorem dX0_init_417 : decode cX0_init 417 = .ok (.dup, 1) := dk_89 (dk_at dksX0_init_17 19 rfl rfl)
theorem dX0_init_418 : decode cX0_init 418 = .ok (.aload_n 0, 1) := dk_42 (dk_at dksX0_init_17 20 rfl rfl)
theorem dX0_init_419 : decode cX0_init 419 = .ok (.invokespecial 59, 3) := dk_183 0 59 (dk_at dksX0_init_17 21 rfl rfl)
theorem dX0_init_422 : decode cX0_init 422 = .ok (.aastore, 1) := dk_83 (dk_at dksX0_init_18 0 rfl rfl)
theorem dX0_init_423 : decode cX0_init 423 = .ok (.putfield 119, 3) := dk_181 0 119 (dk_at dksX0_init_18 1 rfl rfl)
theorem dX0_init_426 : decode cX0_init 426 = .ok (.aload_n 0, 1) := dk_42 (dk_at dksX0_init_18 4 rfl rfl)
theorem dX0_init_427 : decode cX0_init 427 = .ok (.getfield 60, 3) := dk_180 0 60 (dk_at dksX0_init_18 5 rfl rfl)
theorem dX0_init_430 : decode cX0_init 430 = .ok (.invokevirtual 122, 3) := dk_182 0 122 (dk_at dksX0_init_18 8 rfl rfl)
theorem dX0_init_433 : decode cX0_init 433 = .ok (.return_, 1) := dk_177 (dk_at dksX0_init_18 11 rfl rfl)
def dkwX0_feed_2 : List UInt8 := [172]
abbrev dktX0_feed_2 : List UInt8 := dkwX0_feed_2 ++ []
def dkwX0_feed_1 : List UInt8 := [182, 0, 128, 42, 29, 182, 0, 128, 42, 21, 4, 182, 0, 128, 42, 21, 5, 182, 0, 128, 42, 180, 0, 125]
abbrev dktX0_feed_1 : List UInt8 := dkwX0_feed_1 ++ dktX0_feed_2
def dkwX0_feed_0 : List UInt8 := [42, 180, 0, 125, 16, 20, 96, 17, 3, 132, 164, 0, 6, 16, 251, 172, 42, 27, 182, 0, 128, 42, 28]
abbrev dktX0_feed_0 : List UInt8 := dkwX0_feed_0 ++ dktX0_feed_1
theorem dksX0_feed_0 : cX0_feed.data.toList.drop 0 = dktX0_feed_0 := by decide +kernel
theorem dksX0_feed_1 : cX0_feed.data.toList.drop 23 = dktX0_feed_1 := dk_seg dksX0_feed_0 23 rfl rfl
theorem dksX0_feed_2 : cX0_feed.data.toList.drop 47 = dktX0_feed_2 := dk_seg dksX0_feed_1 24 rfl rfl
theorem dX0_feed_0 : decode cX0_feed 0 = .ok (.aload_n 0, 1) := dk_42 (dk_at dksX0_feed_0 0 rfl rfl)
theorem dX0_feed_1 : decode cX0_feed 1 = .ok (.getfield 125, 3) := dk_180 0 125 (dk_at dksX0_feed_0 1 rfl rfl)
theorem dX0_feed_4 : decode cX0_feed 4 = .ok (.bipush 20, 2) := dk_16 20 (dk_at dksX0_feed_0 4 rfl rfl)
theorem dX0_feed_6 : decode cX0_feed 6 = .ok (.iadd, 1) := dk_96 (dk_at dksX0_feed_0 6 rfl rfl)
theorem dX0_feed_7 : decode cX0_feed 7 = .ok (.sipush 900, 3) := dk_17 3 132 (dk_at dksX0_feed_0 7 rfl rfl)
theorem dX0_feed_10 : decode cX0_feed 10 = .ok (.if_icmp .le 6, 3) := dk_164 0 6 (dk_at dksX0_feed_0 10 rfl rfl)
theorem dX0_feed_13 : decode cX0_feed 13 = .ok (.bipush (-5), 2) := dk_16 251 (dk_at dksX0_feed_0 13 rfl rfl)
theorem dX0_feed_15 : decode cX0_feed 15 = .ok (.ireturn, 1) := dk_172 (dk_at dksX0_feed_0 15 rfl rfl)
theorem dX0_feed_16 : decode cX0_feed 16 = .ok (.aload_n 0, 1) := dk_42 (dk_at dksX0_feed_0 16 rfl rfl)
theorem dX0_feed_17 : decode cX0_feed 17 = .ok (.iload_n 1, 1) := dk_27 (dk_at dksX0_feed_0 17 rfl rfl)
theorem dX0_feed_18 : decode cX0_feed 18 = .ok (.invokevirtual 128, 3) := dk_182 0 128 (dk_at dksX0_feed_0 18 rfl rfl)
theorem dX0_feed_21 : decode cX0_feed 21 = .ok (.aload_n 0, 1) := dk_42 (dk_at dksX0_feed_0 21 rfl rfl)
theorem dX0_feed_22 : decode cX0_feed 22 = .ok (.iload_n 2, 1) := dk_28 (dk_at dksX0_feed_0 22 rfl rfl)
theorem dX0_feed_23 : decode cX0_feed 23 = .ok (.invokevirtual 128, 3) := dk_182 0 128 (dk_at dksX0_feed_1 0 rfl rfl)
theorem dX0_feed_26 : decode cX0_feed 26 = .ok (.aload_n 0, 1) := dk_42 (dk_at dksX0_feed_1 3 rfl rfl)
theorem dX0_feed_27 : decode cX0_feed 27 = .ok (.iload_n 3, 1) := dk_29 (dk_at dksX0_feed_1 4 rfl rfl)
theorem dX0_feed_28 : decode cX0_feed 28 = .ok (.invokevirtual 128, 3) := dk_182 0 128 (dk_at dksX0_feed_1 5 rfl rfl)
theorem dX0_feed_31 : decode cX0_feed 31 = .ok (.aload_n 0, 1) := dk_42 (dk_at dksX0_feed_1 8 rfl rfl)
theorem dX0_feed_32 : decode cX0_feed 32 = .ok (.iload 4, 2) := dk_21 4 (dk_at dksX0_feed_1 9 rfl rfl)
theorem dX0_feed_34 : decode cX0_feed 34 = .ok (.invokevirtual 128, 3) := dk_182 0 128 (dk_at dksX0_feed_1 11 rfl rfl)
theorem dX0_feed_37 : decode cX0_feed 37 = .ok (.aload_n 0, 1) := dk_42 (dk_at dksX0_feed_1 14 rfl rfl)
theorem dX0_feed_38 : decode cX0_feed 38 = .ok (.iload 5, 2) := dk_21 5 (dk_at dksX0_feed_1 15 rfl rfl)
theorem dX0_feed_40 : decode cX0_feed 40 = .ok (.invokevirtual 128, 3) := dk_182 0 128 (dk_at dksX0_feed_1 17 rfl rfl)
theorem dX0_feed_43 : decode cX0_feed 43 = .ok (.aload_n 0, 1) := dk_42 (dk_at dksX0_feed_1 20 rfl rfl)
theorem dX0_feed_44 : decode cX0_feed 44 = .ok (.getfield 125, 3) := dk_180 0 125 (dk_at dksX0_feed_1 21 rfl rfl)
theorem dX0_feed_47 : decode cX0_feed 47 = .ok (.ireturn, 1) := dk_172 (dk_at dksX0_feed_2 0 rfl rfl)
def dkwX0_bytes_1 : List UInt8 := [180, 0, 125, 4, 96, 181, 0, 125, 132, 2, 248, 167, 255, 226, 177]
abbrev dktX0_bytes_1 : List UInt8 := dkwX0_bytes_1 ++ []
def dkwX0_bytes_0 : List UInt8 := [16, 24, 61, 28, 155, 0, 32, 42, 180, 0, 67, 42, 180, 0, 125, 27, 28, 122, 145, 84, 42, 89]
abbrev dktX0_bytes_0 : List UInt8 := dkwX0_bytes_0 ++ dktX0_bytes_1
theorem dksX0_bytes_0 : cX0_bytes.data.toList.drop 0 = dktX0_bytes_0 := by decide +kernel
theorem dksX0_bytes_1 : cX0_bytes.data.toList.drop 22 = dktX0_bytes_1 := dk_seg dksX0_bytes_0 22 rfl rfl
theorem dX0_bytes_0 : decode cX0_bytes 0 = .ok (.bipush 24, 2) := dk_16 24 (dk_at dksX0_bytes_0 0 rfl rfl)
theorem dX0_bytes_2 : decode cX0_bytes 2 = .ok (.istore_n 2, 1) := dk_61 (dk_at dksX0_bytes_0 2 rfl rfl)
theorem dX0_bytes_3 : decode cX0_bytes 3 = .ok (.iload_n 2, 1) := dk_28 (dk_at dksX0_bytes_0 3 rfl rfl)
theorem dX0_bytes_4 : decode cX0_bytes 4 = .ok (.ifCond .lt 32, 3) := dk_155 0 32 (dk_at dksX0_bytes_0 4 rfl rfl)
theorem dX0_bytes_7 : decode cX0_bytes 7 = .ok (.aload_n 0, 1) := dk_42 (dk_at dksX0_bytes_0 7 rfl rfl)
theorem dX0_bytes_8 : decode cX0_bytes 8 = .ok (.getfield 67, 3) := dk_180 0 67 (dk_at dksX0_bytes_0 8 rfl rfl)
theorem dX0_bytes_11 : decode cX0_bytes 11 = .ok (.aload_n 0, 1) := dk_42 (dk_at dksX0_bytes_0 11 rfl rfl)
theorem dX0_bytes_12 : decode cX0_bytes 12 = .ok (.getfield 125, 3) := dk_180 0 125 (dk_at dksX0_bytes_0 12 rfl rfl)
theorem dX0_bytes_15 : decode cX0_bytes 15 = .ok (.iload_n 1, 1) := dk_27 (dk_at dksX0_bytes_0 15 rfl rfl)
theorem dX0_bytes_16 : decode cX0_bytes 16 = .ok (.iload_n 2, 1) := dk_28 (dk_at dksX0_bytes_0 16 rfl rfl)
theorem dX0_bytes_17 : decode cX0_bytes 17 = .ok (.ishr, 1) := dk_122 (dk_at dksX0_bytes_0 17 rfl rfl)
theorem dX0_bytes_18 : decode cX0_bytes 18 = .ok (.i2b, 1) := dk_145 (dk_at dksX0_bytes_0 18 rfl rfl)
theorem dX0_bytes_19 : decode cX0_bytes 19 = .ok (.bastore, 1) := dk_84 (dk_at dksX0_bytes_0 19 rfl rfl)
theorem dX0_bytes_20 : decode cX0_bytes 20 = .ok (.aload_n 0, 1) := dk_42 (dk_at dksX0_bytes_0 20 rfl rfl)
theorem dX0_bytes_21 : decode cX0_bytes 21 = .ok (.dup, 1) := dk_89 (dk_at dksX0_bytes_0 21 rfl rfl)
theorem dX0_bytes_22 : decode cX0_bytes 22 = .ok (.getfield 125, 3) := dk_180 0 125 (dk_at dksX0_bytes_1 0 rfl rfl)
theorem dX0_bytes_25 : decode cX0_bytes 25 = .ok (.iconst 1, 1) := dk_4 (dk_at dksX0_bytes_1 3 rfl rfl)
theorem dX0_bytes_26 : decode cX0_bytes 26 = .ok (.iadd, 1) := dk_96 (dk_at dksX0_bytes_1 4 rfl rfl)
theorem dX0_bytes_27 : decode cX0_bytes 27 = .ok (.putfield 125, 3) := dk_181 0 125 (dk_at dksX0_bytes_1 5 rfl rfl)
theorem dX0_bytes_30 : decode cX0_bytes 30 = .ok (.iinc 2 (-8), 3) := dk_132 2 248 (dk_at dksX0_bytes_1 8 rfl rfl)
theorem dX0_bytes_33 : decode cX0_bytes 33 = .ok (.goto (-30), 3) := dk_167 255 226 (dk_at dksX0_bytes_1 11 rfl rfl)
theorem dX0_bytes_36 : decode cX0_bytes 36 = .ok (.return_, 1) := dk_177 (dk_at dksX0_bytes_1 14 rfl rfl)
def dkwX0_river_4 : List UInt8 := [180, 0, 157, 172]
abbrev dktX0_river_4 : List UInt8 := dkwX0_river_4 ++ []
def dkwX0_river_3 : List UInt8 := [180, 0, 151, 181, 0, 17, 42, 180, 0, 60, 182, 0, 122, 42, 3, 181, 0, 154, 42, 180, 0, 17]
abbrev dktX0_river_3 : List UInt8 := dkwX0_river_3 ++ dktX0_river_4
def dkwX0_river_2 : List UInt8 := [180, 0, 148, 181, 0, 71, 42, 180, 0, 145, 153, 0, 11, 16, 226, 42, 180, 0, 145, 100, 172, 42, 44]
abbrev dktX0_river_2 : List UInt8 := dkwX0_river_2 ++ dktX0_river_3
def dkwX0_river_1 : List UInt8 := [183, 0, 138, 77, 44, 182, 0, 139, 42, 3, 181, 0, 125, 42, 44, 180, 0, 142, 181, 0, 145, 42, 44]
abbrev dktX0_river_1 : List UInt8 := dkwX0_river_1 ++ dktX0_river_2
def dkwX0_river_0 : List UInt8 := [27, 133, 9, 42, 180, 0, 125, 133, 184, 0, 132, 154, 0, 6, 16, 253, 172, 187, 0, 136, 89, 42, 27]
abbrev dktX0_river_0 : List UInt8 := dkwX0_river_0 ++ dktX0_river_1
theorem dksX0_river_0 : cX0_river.data.toList.drop 0 = dktX0_river_0 := by decide +kernel
theorem dksX0_river_1 : cX0_river.data.toList.drop 23 = dktX0_river_1 := dk_seg dksX0_river_0 23 rfl rfl
theorem dksX0_river_2 : cX0_river.data.toList.drop 46 = dktX0_river_2 := dk_seg dksX0_river_1 23 rfl rfl
theorem dksX0_river_3 : cX0_river.data.toList.drop 69 = dktX0_river_3 := dk_seg dksX0_river_2 23 rfl rfl
theorem dksX0_river_4 : cX0_river.data.toList.drop 91 = dktX0_river_4 := dk_seg dksX0_river_3 22 rfl rfl
theorem dX0_river_0 : decode cX0_river 0 = .ok (.iload_n 1, 1) := dk_27 (dk_at dksX0_river_0 0 rfl rfl)
theorem dX0_river_1 : decode cX0_river 1 = .ok (.i2l, 1) := dk_133 (dk_at dksX0_river_0 1 rfl rfl)
theorem dX0_river_2 : decode cX0_river 2 = .ok (.lconst 0, 1) := dk_9 (dk_at dksX0_river_0 2 rfl rfl)
theorem dX0_river_3 : decode cX0_river 3 = .ok (.aload_n 0, 1) := dk_42 (dk_at dksX0_river_0 3 rfl rfl)
theorem dX0_river_4 : decode cX0_river 4 = .ok (.getfield 125, 3) := dk_180 0 125 (dk_at dksX0_river_0 4 rfl rfl)
theorem dX0_river_7 : decode cX0_river 7 = .ok (.i2l, 1) := dk_133 (dk_at dksX0_river_0 7 rfl rfl)
theorem dX0_river_8 : decode cX0_river 8 = .ok (.invokestatic 132, 3) := dk_184 0 132 (dk_at dksX0_river_0 8 rfl rfl)
theorem dX0_river_11 : decode cX0_river 11 = .ok (.ifCond .ne 6, 3) := dk_154 0 6 (dk_at dksX0_river_0 11 rfl rfl)
theorem dX0_river_14 : decode cX0_river 14 = .ok (.bipush (-3), 2) := dk_16 253 (dk_at dksX0_river_0 14 rfl rfl)
theorem dX0_river_16 : decode cX0_river 16 = .ok (.ireturn, 1) := dk_172 (dk_at dksX0_river_0 16 rfl rfl)
theorem dX0_river_17 : decode cX0_river 17 = .ok (.new 136, 3) := dk_187 0 136 (dk_at dksX0_river_0 17 rfl rfl)
theorem dX0_river_20 : decode cX0_river 20 = .ok (.dup, 1) := dk_89 (dk_at dksX0_river_0 20 rfl rfl)
theorem dX0_river_21 : decode cX0_river 21 = .ok (.aload_n 0, 1) := dk_42 (dk_at dksX0_river_0 21 rfl rfl)
theorem dX0_river_22 : decode cX0_river 22 = .ok (.iload_n 1, 1) := dk_27 (dk_at dksX0_river_0 22 rfl rfl)
theorem dX0_river_23 : decode cX0_river 23 = .ok (.invokespecial 138, 3) := dk_183 0 138 (dk_at dksX0_river_1 0 rfl rfl)
theorem dX0_river_26 : decode cX0_river 26 = .ok (.astore_n 2, 1) := dk_77 (dk_at dksX0_river_1 3 rfl rfl)
theorem dX0_river_27 : decode cX0_river 27 = .ok (.aload_n 2, 1) := dk_44 (dk_at dksX0_river_1 4 rfl rfl)
theorem dX0_river_28 : decode cX0_river 28 = .ok (.invokevirtual 139, 3) := dk_182 0 139 (dk_at dksX0_river_1 5 rfl rfl)
theorem dX0_river_31 : decode cX0_river 31 = .ok (.aload_n 0, 1) := dk_42 (dk_at dksX0_river_1 8 rfl rfl)
theorem dX0_river_32 : decode cX0_river 32 = .ok (.iconst 0, 1) := dk_3 (dk_at dksX0_river_1 9 rfl rfl)
theorem dX0_river_33 : decode cX0_river 33 = .ok (.putfield 125, 3) := dk_181 0 125 (dk_at dksX0_river_1 10 rfl rfl)
theorem dX0_river_36 : decode cX0_river 36 = .ok (.aload_n 0, 1) := dk_42 (dk_at dksX0_river_1 13 rfl rfl)
theorem dX0_river_37 : decode cX0_river 37 = .ok (.aload_n 2, 1) := dk_44 (dk_at dksX0_river_1 14 rfl rfl)
theorem dX0_river_38 : decode cX0_river 38 = .ok (.getfield 142, 3) := dk_180 0 142 (dk_at dksX0_river_1 15 rfl rfl)
theorem dX0_river_41 : decode cX0_river 41 = .ok (.putfield 145, 3) := dk_181 0 145 (dk_at dksX0_river_1 18 rfl rfl)
theorem dX0_river_44 : decode cX0_river 44 = .ok (.aload_n 0, 1) := dk_42 (dk_at dksX0_river_1 21 rfl rfl)
theorem dX0_river_45 : decode cX0_river 45 = .ok (.aload_n 2, 1) := dk_44 (dk_at dksX0_river_1 22 rfl rfl)
theorem dX0_river_46 : decode cX0_river 46 = .ok (.getfield 148, 3) := dk_180 0 148 (dk_at dksX0_river_2 0 rfl rfl)
theorem dX0_river_49 : decode cX0_river 49 = .ok (.putfield 71, 3) := dk_181 0 71 (dk_at dksX0_river_2 3 rfl rfl)
theorem dX0_river_52 : decode cX0_river 52 = .ok (.aload_n 0, 1) := dk_42 (dk_at dksX0_river_2 6 rfl rfl)
theorem dX0_river_53 : decode cX0_river 53 = .ok (.getfield 145, 3) := dk_180 0 145 (dk_at dksX0_river_2 7 rfl rfl)
theorem dX0_river_56 : decode cX0_river 56 = .ok (.ifCond .eq 11, 3) := dk_153 0 11 (dk_at dksX0_river_2 10 rfl rfl)
theorem dX0_river_59 : decode cX0_river 59 = .ok (.bipush (-30), 2) := dk_16 226 (dk_at dksX0_river_2 13 rfl rfl)
theorem dX0_river_61 : decode cX0_river 61 = .ok (.aload_n 0, 1) := dk_42 (dk_at dksX0_river_2 15 rfl rfl)
theorem dX0_river_62 : decode cX0_river 62 = .ok (.getfield 145, 3) := dk_180 0 145 (dk_at dksX0_river_2 16 rfl rfl)
theorem dX0_river_65 : decode cX0_river 65 = .ok (.isub, 1) := dk_100 (dk_at dksX0_river_2 19 rfl rfl)
theorem dX0_river_66 : decode cX0_river 66 = .ok (.ireturn, 1) := dk_172 (dk_at dksX0_river_2 20 rfl rfl)
theorem dX0_river_67 : decode cX0_river 67 = .ok (.aload_n 0, 1) := dk_42 (dk_at dksX0_river_2 21 rfl rfl)
theorem dX0_river_68 : decode cX0_river 68 = .ok (.aload_n 2, 1) := dk_44 (dk_at dksX0_river_2 22 rfl rfl)
theorem dX0_river_69 : decode cX0_river 69 = .ok (.getfield 151, 3) := dk_180 0 151 (dk_at dksX0_river_3 0 rfl rfl)
theorem dX0_river_72 : decode cX0_river 72 = .ok (.putfield 17, 3) := dk_181 0 17 (dk_at dksX0_river_3 3 rfl rfl)
theorem dX0_river_75 : decode cX0_river 75 = .ok (.aload_n 0, 1) := dk_42 (dk_at dksX0_river_3 6 rfl rfl)
theorem dX0_river_76 : decode cX0_river 76 = .ok (.getfield 60, 3) := dk_180 0 60 (dk_at dksX0_river_3 7 rfl rfl)
theorem dX0_river_79 : decode cX0_river 79 = .ok (.invokevirtual 122, 3) := dk_182 0 122 (dk_at dksX0_river_3 10 rfl rfl)
theorem dX0_river_82 : decode cX0_river 82 = .ok (.aload_n 0, 1) := dk_42 (dk_at dksX0_river_3 13 rfl rfl)
theorem dX0_river_83 : decode cX0_river 83 = .ok (.iconst 0, 1) := dk_3 (dk_at dksX0_river_3 14 rfl rfl)
theorem dX0_river_84 : decode cX0_river 84 = .ok (.putfield 154, 3) := dk_181 0 154 (dk_at dksX0_river_3 15 rfl rfl)
theorem dX0_river_87 : decode cX0_river 87 = .ok (.aload_n 0, 1) := dk_42 (dk_at dksX0_river_3 18 rfl rfl)
theorem dX0_river_88 : decode cX0_river 88 = .ok (.getfield 17, 3) := dk_180 0 17 (dk_at dksX0_river_3 19 rfl rfl)
theorem dX0_river_91 : decode cX0_river 91 = .ok (.getfield 157, 3) := dk_180 0 157 (dk_at dksX0_river_4 0 rfl rfl)
theorem dX0_river_94 : decode cX0_river 94 = .ok (.ireturn, 1) := dk_172 (dk_at dksX0_river_4 3 rfl rfl)
def dkwX0_in_0 : List UInt8 := [30, 32, 148, 155, 0, 14, 30, 22, 4, 148, 157, 0, 7, 4, 167, 0, 4, 3, 172]
abbrev dktX0_in_0 : List UInt8 := dkwX0_in_0 ++ []
theorem dksX0_in_0 : cX0_in.data.toList.drop 0 = dktX0_in_0 := by decide +kernel
theorem dX0_in_0 : decode cX0_in 0 = .ok (.lload_n 0, 1) := dk_30 (dk_at dksX0_in_0 0 rfl rfl)
theorem dX0_in_1 : decode cX0_in 1 = .ok (.lload_n 2, 1) := dk_32 (dk_at dksX0_in_0 1 rfl rfl)
theorem dX0_in_2 : decode cX0_in 2 = .ok (.lcmp, 1) := dk_148 (dk_at dksX0_in_0 2 rfl rfl)
theorem dX0_in_3 : decode cX0_in 3 = .ok (.ifCond .lt 14, 3) := dk_155 0 14 (dk_at dksX0_in_0 3 rfl rfl)
theorem dX0_in_6 : decode cX0_in 6 = .ok (.lload_n 0, 1) := dk_30 (dk_at dksX0_in_0 6 rfl rfl)
theorem dX0_in_7 : decode cX0_in 7 = .ok (.lload 4, 2) := dk_22 4 (dk_at dksX0_in_0 7 rfl rfl)
theorem dX0_in_9 : decode cX0_in 9 = .ok (.lcmp, 1) := dk_148 (dk_at dksX0_in_0 9 rfl rfl)
theorem dX0_in_10 : decode cX0_in 10 = .ok (.ifCond .gt 7, 3) := dk_157 0 7 (dk_at dksX0_in_0 10 rfl rfl)
theorem dX0_in_13 : decode cX0_in 13 = .ok (.iconst 1, 1) := dk_4 (dk_at dksX0_in_0 13 rfl rfl)
theorem dX0_in_14 : decode cX0_in 14 = .ok (.goto 4, 3) := dk_167 0 4 (dk_at dksX0_in_0 14 rfl rfl)
theorem dX0_in_17 : decode cX0_in 17 = .ok (.iconst 0, 1) := dk_3 (dk_at dksX0_in_0 17 rfl rfl)
theorem dX0_in_18 : decode cX0_in 18 = .ok (.ireturn, 1) := dk_172 (dk_at dksX0_in_0 18 rfl rfl)
def dkwX0_fault_1 : List UInt8 := [172]
abbrev dktX0_fault_1 : List UInt8 := dkwX0_fault_1 ++ []
def dkwX0_fault_0 : List UInt8 := [27, 154, 0, 10, 42, 180, 0, 145, 167, 0, 16, 27, 4, 160, 0, 10, 42, 180, 0, 71, 167, 0, 4, 2]
abbrev dktX0_fault_0 : List UInt8 := dkwX0_fault_0 ++ dktX0_fault_1
theorem dksX0_fault_0 : cX0_fault.data.toList.drop 0 = dktX0_fault_0 := by decide +kernel
theorem dksX0_fault_1 : cX0_fault.data.toList.drop 24 = dktX0_fault_1 := dk_seg dksX0_fault_0 24 rfl rfl
theorem dX0_fault_0 : decode cX0_fault 0 = .ok (.iload_n 1, 1) := dk_27 (dk_at dksX0_fault_0 0 rfl rfl)
theorem dX0_fault_1 : decode cX0_fault 1 = .ok (.ifCond .ne 10, 3) := dk_154 0 10 (dk_at dksX0_fault_0 1 rfl rfl)
theorem dX0_fault_4 : decode cX0_fault 4 = .ok (.aload_n 0, 1) := dk_42 (dk_at dksX0_fault_0 4 rfl rfl)
theorem dX0_fault_5 : decode cX0_fault 5 = .ok (.getfield 145, 3) := dk_180 0 145 (dk_at dksX0_fault_0 5 rfl rfl)
theorem dX0_fault_8 : decode cX0_fault 8 = .ok (.goto 16, 3) := dk_167 0 16 (dk_at dksX0_fault_0 8 rfl rfl)
theorem dX0_fault_11 : decode cX0_fault 11 = .ok (.iload_n 1, 1) := dk_27 (dk_at dksX0_fault_0 11 rfl rfl)
theorem dX0_fault_12 : decode cX0_fault 12 = .ok (.iconst 1, 1) := dk_4 (dk_at dksX0_fault_0 12 rfl rfl)
theorem dX0_fault_13 : decode cX0_fault 13 = .ok (.if_icmp .ne 10, 3) := dk_160 0 10 (dk_at dksX0_fault_0 13 rfl rfl)
theorem dX0_fault_16 : decode cX0_fault 16 = .ok (.aload_n 0, 1) := dk_42 (dk_at dksX0_fault_0 16 rfl rfl)
theorem dX0_fault_17 : decode cX0_fault 17 = .ok (.getfield 71, 3) := dk_180 0 71 (dk_at dksX0_fault_0 17 rfl rfl)
theorem dX0_fault_20 : decode cX0_fault 20 = .ok (.goto 4, 3) := dk_167 0 4 (dk_at dksX0_fault_0 20 rfl rfl)
theorem dX0_fault_23 : decode cX0_fault 23 = .ok (.iconst (-1), 1) := dk_2 (dk_at dksX0_fault_0 23 rfl rfl)
theorem dX0_fault_24 : decode cX0_fault 24 = .ok (.ireturn, 1) := dk_172 (dk_at dksX0_fault_1 0 rfl rfl)
def dkwX0_span_1 : List UInt8 := [16, 253, 172]
abbrev dktX0_span_1 : List UInt8 := dkwX0_span_1 ++ []
def dkwX0_span_0 : List UInt8 := [27, 133, 9, 20, 0, 163, 184, 0, 132, 153, 0, 14, 42, 180, 0, 60, 27, 182, 0, 165, 167, 0, 5]
abbrev dktX0_span_0 : List UInt8 := dkwX0_span_0 ++ dktX0_span_1
theorem dksX0_span_0 : cX0_span.data.toList.drop 0 = dktX0_span_0 := by decide +kernel
theorem dksX0_span_1 : cX0_span.data.toList.drop 23 = dktX0_span_1 := dk_seg dksX0_span_0 23 rfl rfl
theorem dX0_span_0 : decode cX0_span 0 = .ok (.iload_n 1, 1) := dk_27 (dk_at dksX0_span_0 0 rfl rfl)
theorem dX0_span_1 : decode cX0_span 1 = .ok (.i2l, 1) := dk_133 (dk_at dksX0_span_0 1 rfl rfl)
theorem dX0_span_2 : decode cX0_span 2 = .ok (.lconst 0, 1) := dk_9 (dk_at dksX0_span_0 2 rfl rfl)
theorem dX0_span_3 : decode cX0_span 3 = .ok (.ldc2_w 163, 3) := dk_20 0 163 (dk_at dksX0_span_0 3 rfl rfl)
theorem dX0_span_6 : decode cX0_span 6 = .ok (.invokestatic 132, 3) := dk_184 0 132 (dk_at dksX0_span_0 6 rfl rfl)
theorem dX0_span_9 : decode cX0_span 9 = .ok (.ifCond .eq 14, 3) := dk_153 0 14 (dk_at dksX0_span_0 9 rfl rfl)
theorem dX0_span_12 : decode cX0_span 12 = .ok (.aload_n 0, 1) := dk_42 (dk_at dksX0_span_0 12 rfl rfl)
theorem dX0_span_13 : decode cX0_span 13 = .ok (.getfield 60, 3) := dk_180 0 60 (dk_at dksX0_span_0 13 rfl rfl)
theorem dX0_span_16 : decode cX0_span 16 = .ok (.iload_n 1, 1) := dk_27 (dk_at dksX0_span_0 16 rfl rfl)
theorem dX0_span_17 : decode cX0_span 17 = .ok (.invokevirtual 165, 3) := dk_182 0 165 (dk_at dksX0_span_0 17 rfl rfl)
theorem dX0_span_20 : decode cX0_span 20 = .ok (.goto 5, 3) := dk_167 0 5 (dk_at dksX0_span_0 20 rfl rfl)
theorem dX0_span_23 : decode cX0_span 23 = .ok (.bipush (-3), 2) := dk_16 253 (dk_at dksX0_span_1 0 rfl rfl)
theorem dX0_span_25 : decode cX0_span 25 = .ok (.ireturn, 1) := dk_172 (dk_at dksX0_span_1 2 rfl rfl)
def dkwX0_person_5 : List UInt8 := [172]
abbrev dktX0_person_5 : List UInt8 := dkwX0_person_5 ++ []
def dkwX0_person_4 : List UInt8 := [184, 0, 188, 153, 0, 7, 4, 167, 0, 4, 3, 172, 42, 180, 0, 60, 180, 0, 192, 27, 46, 172, 16, 254]
abbrev dktX0_person_4 : List UInt8 := dkwX0_person_4 ++ dktX0_person_5
def dkwX0_person_3 : List UInt8 := [180, 0, 179, 27, 46, 172, 42, 180, 0, 17, 180, 0, 182, 27, 46, 172, 42, 180, 0, 60, 180, 0, 185, 27]
abbrev dktX0_person_3 : List UInt8 := dkwX0_person_3 ++ dktX0_person_4
def dkwX0_person_2 : List UInt8 := [42, 180, 0, 60, 180, 0, 173, 27, 46, 172, 42, 180, 0, 17, 180, 0, 176, 27, 46, 172, 42, 180, 0, 17]
abbrev dktX0_person_2 : List UInt8 := dkwX0_person_2 ++ dktX0_person_3
def dkwX0_person_1 : List UInt8 := [170, 0, 0, 0, 0, 0, 0, 110, 0, 0, 0, 0, 0, 0, 0, 5, 0, 0, 0, 40, 0, 0, 0, 50, 0, 0, 0, 60, 0, 0, 0, 70, 0, 0, 0, 80, 0, 0, 0, 100]
abbrev dktX0_person_1 : List UInt8 := dkwX0_person_1 ++ dktX0_person_2
def dkwX0_person_0 : List UInt8 := [42, 27, 182, 0, 169, 154, 0, 6, 16, 254, 172, 28]
abbrev dktX0_person_0 : List UInt8 := dkwX0_person_0 ++ dktX0_person_1
theorem dksX0_person_0 : cX0_person.data.toList.drop 0 = dktX0_person_0 := by decide +kernel
theorem dksX0_person_1 : cX0_person.data.toList.drop 12 = dktX0_person_1 := dk_seg dksX0_person_0 12 rfl rfl
theorem dksX0_person_2 : cX0_person.data.toList.drop 52 = dktX0_person_2 := dk_seg dksX0_person_1 40 rfl rfl
theorem dksX0_person_3 : cX0_person.data.toList.drop 76 = dktX0_person_3 := dk_seg dksX0_person_2 24 rfl rfl
theorem dksX0_person_4 : cX0_person.data.toList.drop 100 = dktX0_person_4 := dk_seg dksX0_person_3 24 rfl rfl
theorem dksX0_person_5 : cX0_person.data.toList.drop 124 = dktX0_person_5 := dk_seg dksX0_person_4 24 rfl rfl
theorem dX0_person_0 : decode cX0_person 0 = .ok (.aload_n 0, 1) := dk_42 (dk_at dksX0_person_0 0 rfl rfl)
theorem dX0_person_1 : decode cX0_person 1 = .ok (.iload_n 1, 1) := dk_27 (dk_at dksX0_person_0 1 rfl rfl)
theorem dX0_person_2 : decode cX0_person 2 = .ok (.invokevirtual 169, 3) := dk_182 0 169 (dk_at dksX0_person_0 2 rfl rfl)
theorem dX0_person_5 : decode cX0_person 5 = .ok (.ifCond .ne 6, 3) := dk_154 0 6 (dk_at dksX0_person_0 5 rfl rfl)
theorem dX0_person_8 : decode cX0_person 8 = .ok (.bipush (-2), 2) := dk_16 254 (dk_at dksX0_person_0 8 rfl rfl)
theorem dX0_person_10 : decode cX0_person 10 = .ok (.ireturn, 1) := dk_172 (dk_at dksX0_person_0 10 rfl rfl)
theorem dX0_person_11 : decode cX0_person 11 = .ok (.iload_n 2, 1) := dk_28 (dk_at dksX0_person_0 11 rfl rfl)
theorem dX0_person_12 : decode cX0_person 12 = .ok (.tableswitch 110 0 5 #[40, 50, 60, 70, 80, 100], 40) := by decide +kernel
theorem dX0_person_52 : decode cX0_person 52 = .ok (.aload_n 0, 1) := dk_42 (dk_at dksX0_person_2 0 rfl rfl)
theorem dX0_person_53 : decode cX0_person 53 = .ok (.getfield 60, 3) := dk_180 0 60 (dk_at dksX0_person_2 1 rfl rfl)
theorem dX0_person_56 : decode cX0_person 56 = .ok (.getfield 173, 3) := dk_180 0 173 (dk_at dksX0_person_2 4 rfl rfl)
theorem dX0_person_59 : decode cX0_person 59 = .ok (.iload_n 1, 1) := dk_27 (dk_at dksX0_person_2 7 rfl rfl)
theorem dX0_person_60 : decode cX0_person 60 = .ok (.iaload, 1) := dk_46 (dk_at dksX0_person_2 8 rfl rfl)
theorem dX0_person_61 : decode cX0_person 61 = .ok (.ireturn, 1) := dk_172 (dk_at dksX0_person_2 9 rfl rfl)
theorem dX0_person_62 : decode cX0_person 62 = .ok (.aload_n 0, 1) := dk_42 (dk_at dksX0_person_2 10 rfl rfl)
theorem dX0_person_63 : decode cX0_person 63 = .ok (.getfield 17, 3) := dk_180 0 17 (dk_at dksX0_person_2 11 rfl rfl)
theorem dX0_person_66 : decode cX0_person 66 = .ok (.getfield 176, 3) := dk_180 0 176 (dk_at dksX0_person_2 14 rfl rfl)
theorem dX0_person_69 : decode cX0_person 69 = .ok (.iload_n 1, 1) := dk_27 (dk_at dksX0_person_2 17 rfl rfl)
theorem dX0_person_70 : decode cX0_person 70 = .ok (.iaload, 1) := dk_46 (dk_at dksX0_person_2 18 rfl rfl)
theorem dX0_person_71 : decode cX0_person 71 = .ok (.ireturn, 1) := dk_172 (dk_at dksX0_person_2 19 rfl rfl)
theorem dX0_person_72 : decode cX0_person 72 = .ok (.aload_n 0, 1) := dk_42 (dk_at dksX0_person_2 20 rfl rfl)
theorem dX0_person_73 : decode cX0_person 73 = .ok (.getfield 17, 3) := dk_180 0 17 (dk_at dksX0_person_2 21 rfl rfl)
theorem dX0_person_76 : decode cX0_person 76 = .ok (.getfield 179, 3) := dk_180 0 179 (dk_at dksX0_person_3 0 rfl rfl)
theorem dX0_person_79 : decode cX0_person 79 = .ok (.iload_n 1, 1) := dk_27 (dk_at dksX0_person_3 3 rfl rfl)
theorem dX0_person_80 : decode cX0_person 80 = .ok (.iaload, 1) := dk_46 (dk_at dksX0_person_3 4 rfl rfl)
theorem dX0_person_81 : decode cX0_person 81 = .ok (.ireturn, 1) := dk_172 (dk_at dksX0_person_3 5 rfl rfl)
theorem dX0_person_82 : decode cX0_person 82 = .ok (.aload_n 0, 1) := dk_42 (dk_at dksX0_person_3 6 rfl rfl)
theorem dX0_person_83 : decode cX0_person 83 = .ok (.getfield 17, 3) := dk_180 0 17 (dk_at dksX0_person_3 7 rfl rfl)
theorem dX0_person_86 : decode cX0_person 86 = .ok (.getfield 182, 3) := dk_180 0 182 (dk_at dksX0_person_3 10 rfl rfl)
theorem dX0_person_89 : decode cX0_person 89 = .ok (.iload_n 1, 1) := dk_27 (dk_at dksX0_person_3 13 rfl rfl)
theorem dX0_person_90 : decode cX0_person 90 = .ok (.iaload, 1) := dk_46 (dk_at dksX0_person_3 14 rfl rfl)
theorem dX0_person_91 : decode cX0_person 91 = .ok (.ireturn, 1) := dk_172 (dk_at dksX0_person_3 15 rfl rfl)
theorem dX0_person_92 : decode cX0_person 92 = .ok (.aload_n 0, 1) := dk_42 (dk_at dksX0_person_3 16 rfl rfl)
theorem dX0_person_93 : decode cX0_person 93 = .ok (.getfield 60, 3) := dk_180 0 60 (dk_at dksX0_person_3 17 rfl rfl)
theorem dX0_person_96 : decode cX0_person 96 = .ok (.getfield 185, 3) := dk_180 0 185 (dk_at dksX0_person_3 20 rfl rfl)
theorem dX0_person_99 : decode cX0_person 99 = .ok (.iload_n 1, 1) := dk_27 (dk_at dksX0_person_3 23 rfl rfl)
theorem dX0_person_100 : decode cX0_person 100 = .ok (.invokestatic 188, 3) := dk_184 0 188 (dk_at dksX0_person_4 0 rfl rfl)
theorem dX0_person_103 : decode cX0_person 103 = .ok (.ifCond .eq 7, 3) := dk_153 0 7 (dk_at dksX0_person_4 3 rfl rfl)
theorem dX0_person_106 : decode cX0_person 106 = .ok (.iconst 1, 1) := dk_4 (dk_at dksX0_person_4 6 rfl rfl)
theorem dX0_person_107 : decode cX0_person 107 = .ok (.goto 4, 3) := dk_167 0 4 (dk_at dksX0_person_4 7 rfl rfl)
theorem dX0_person_110 : decode cX0_person 110 = .ok (.iconst 0, 1) := dk_3 (dk_at dksX0_person_4 10 rfl rfl)
theorem dX0_person_111 : decode cX0_person 111 = .ok (.ireturn, 1) := dk_172 (dk_at dksX0_person_4 11 rfl rfl)
theorem dX0_person_112 : decode cX0_person 112 = .ok (.aload_n 0, 1) := dk_42 (dk_at dksX0_person_4 12 rfl rfl)
theorem dX0_person_113 : decode cX0_person 113 = .ok (.getfield 60, 3) := dk_180 0 60 (dk_at dksX0_person_4 13 rfl rfl)
theorem dX0_person_116 : decode cX0_person 116 = .ok (.getfield 192, 3) := dk_180 0 192 (dk_at dksX0_person_4 16 rfl rfl)
theorem dX0_person_119 : decode cX0_person 119 = .ok (.iload_n 1, 1) := dk_27 (dk_at dksX0_person_4 19 rfl rfl)
theorem dX0_person_120 : decode cX0_person 120 = .ok (.iaload, 1) := dk_46 (dk_at dksX0_person_4 20 rfl rfl)
theorem dX0_person_121 : decode cX0_person 121 = .ok (.ireturn, 1) := dk_172 (dk_at dksX0_person_4 21 rfl rfl)
theorem dX0_person_122 : decode cX0_person 122 = .ok (.bipush (-2), 2) := dk_16 254 (dk_at dksX0_person_4 22 rfl rfl)
theorem dX0_person_124 : decode cX0_person 124 = .ok (.ireturn, 1) := dk_172 (dk_at dksX0_person_5 0 rfl rfl)
def dkwX0_isBody_0 : List UInt8 := [27, 133, 9, 42, 180, 0, 17, 180, 0, 160, 4, 100, 133, 184, 0, 132, 172]
abbrev dktX0_isBody_0 : List UInt8 := dkwX0_isBody_0 ++ []
theorem dksX0_isBody_0 : cX0_isBody.data.toList.drop 0 = dktX0_isBody_0 := by decide +kernel
theorem dX0_isBody_0 : decode cX0_isBody 0 = .ok (.iload_n 1, 1) := dk_27 (dk_at dksX0_isBody_0 0 rfl rfl)
theorem dX0_isBody_1 : decode cX0_isBody 1 = .ok (.i2l, 1) := dk_133 (dk_at dksX0_isBody_0 1 rfl rfl)
theorem dX0_isBody_2 : decode cX0_isBody 2 = .ok (.lconst 0, 1) := dk_9 (dk_at dksX0_isBody_0 2 rfl rfl)
theorem dX0_isBody_3 : decode cX0_isBody 3 = .ok (.aload_n 0, 1) := dk_42 (dk_at dksX0_isBody_0 3 rfl rfl)
theorem dX0_isBody_4 : decode cX0_isBody 4 = .ok (.getfield 17, 3) := dk_180 0 17 (dk_at dksX0_isBody_0 4 rfl rfl)
theorem dX0_isBody_7 : decode cX0_isBody 7 = .ok (.getfield 160, 3) := dk_180 0 160 (dk_at dksX0_isBody_0 7 rfl rfl)
theorem dX0_isBody_10 : decode cX0_isBody 10 = .ok (.iconst 1, 1) := dk_4 (dk_at dksX0_isBody_0 10 rfl rfl)
theorem dX0_isBody_11 : decode cX0_isBody 11 = .ok (.isub, 1) := dk_100 (dk_at dksX0_isBody_0 11 rfl rfl)
theorem dX0_isBody_12 : decode cX0_isBody 12 = .ok (.i2l, 1) := dk_133 (dk_at dksX0_isBody_0 12 rfl rfl)
theorem dX0_isBody_13 : decode cX0_isBody 13 = .ok (.invokestatic 132, 3) := dk_184 0 132 (dk_at dksX0_isBody_0 13 rfl rfl)
theorem dX0_isBody_16 : decode cX0_isBody 16 = .ok (.ireturn, 1) := dk_172 (dk_at dksX0_isBody_0 16 rfl rfl)
def dkwX0_has_0 : List UInt8 := [26, 27, 122, 4, 126, 4, 160, 0, 7, 4, 167, 0, 4, 3, 172]
abbrev dktX0_has_0 : List UInt8 := dkwX0_has_0 ++ []
theorem dksX0_has_0 : cX0_has.data.toList.drop 0 = dktX0_has_0 := by decide +kernel
theorem dX0_has_0 : decode cX0_has 0 = .ok (.iload_n 0, 1) := dk_26 (dk_at dksX0_has_0 0 rfl rfl)
theorem dX0_has_1 : decode cX0_has 1 = .ok (.iload_n 1, 1) := dk_27 (dk_at dksX0_has_0 1 rfl rfl)
theorem dX0_has_2 : decode cX0_has 2 = .ok (.ishr, 1) := dk_122 (dk_at dksX0_has_0 2 rfl rfl)
theorem dX0_has_3 : decode cX0_has 3 = .ok (.iconst 1, 1) := dk_4 (dk_at dksX0_has_0 3 rfl rfl)
theorem dX0_has_4 : decode cX0_has 4 = .ok (.iand, 1) := dk_126 (dk_at dksX0_has_0 4 rfl rfl)
theorem dX0_has_5 : decode cX0_has 5 = .ok (.iconst 1, 1) := dk_4 (dk_at dksX0_has_0 5 rfl rfl)
theorem dX0_has_6 : decode cX0_has 6 = .ok (.if_icmp .ne 7, 3) := dk_160 0 7 (dk_at dksX0_has_0 6 rfl rfl)
theorem dX0_has_9 : decode cX0_has 9 = .ok (.iconst 1, 1) := dk_4 (dk_at dksX0_has_0 9 rfl rfl)
theorem dX0_has_10 : decode cX0_has 10 = .ok (.goto 4, 3) := dk_167 0 4 (dk_at dksX0_has_0 10 rfl rfl)
theorem dX0_has_13 : decode cX0_has 13 = .ok (.iconst 0, 1) := dk_3 (dk_at dksX0_has_0 13 rfl rfl)
theorem dX0_has_14 : decode cX0_has 14 = .ok (.ireturn, 1) := dk_172 (dk_at dksX0_has_0 14 rfl rfl)
def dkwX0_why_0 : List UInt8 := [42, 180, 0, 60, 27, 133, 28, 133, 182, 0, 195, 172]
abbrev dktX0_why_0 : List UInt8 := dkwX0_why_0 ++ []
theorem dksX0_why_0 : cX0_why.data.toList.drop 0 = dktX0_why_0 := by decide +kernel
theorem dX0_why_0 : decode cX0_why 0 = .ok (.aload_n 0, 1) := dk_42 (dk_at dksX0_why_0 0 rfl rfl)
theorem dX0_why_1 : decode cX0_why 1 = .ok (.getfield 60, 3) := dk_180 0 60 (dk_at dksX0_why_0 1 rfl rfl)
theorem dX0_why_4 : decode cX0_why 4 = .ok (.iload_n 1, 1) := dk_27 (dk_at dksX0_why_0 4 rfl rfl)
theorem dX0_why_5 : decode cX0_why 5 = .ok (.i2l, 1) := dk_133 (dk_at dksX0_why_0 5 rfl rfl)
theorem dX0_why_6 : decode cX0_why 6 = .ok (.iload_n 2, 1) := dk_28 (dk_at dksX0_why_0 6 rfl rfl)
theorem dX0_why_7 : decode cX0_why 7 = .ok (.i2l, 1) := dk_133 (dk_at dksX0_why_0 7 rfl rfl)
theorem dX0_why_8 : decode cX0_why 8 = .ok (.invokevirtual 195, 3) := dk_182 0 195 (dk_at dksX0_why_0 8 rfl rfl)
theorem dX0_why_11 : decode cX0_why 11 = .ok (.ireturn, 1) := dk_172 (dk_at dksX0_why_0 11 rfl rfl)
def dkwX0_leads_0 : List UInt8 := [27, 154, 0, 7, 28, 167, 0, 14, 42, 180, 0, 1, 27, 50, 28, 29, 182, 0, 31, 172]
abbrev dktX0_leads_0 : List UInt8 := dkwX0_leads_0 ++ []
theorem dksX0_leads_0 : cX0_leads.data.toList.drop 0 = dktX0_leads_0 := by decide +kernel
theorem dX0_leads_0 : decode cX0_leads 0 = .ok (.iload_n 1, 1) := dk_27 (dk_at dksX0_leads_0 0 rfl rfl)
theorem dX0_leads_1 : decode cX0_leads 1 = .ok (.ifCond .ne 7, 3) := dk_154 0 7 (dk_at dksX0_leads_0 1 rfl rfl)
theorem dX0_leads_4 : decode cX0_leads 4 = .ok (.iload_n 2, 1) := dk_28 (dk_at dksX0_leads_0 4 rfl rfl)
theorem dX0_leads_5 : decode cX0_leads 5 = .ok (.goto 14, 3) := dk_167 0 14 (dk_at dksX0_leads_0 5 rfl rfl)
theorem dX0_leads_8 : decode cX0_leads 8 = .ok (.aload_n 0, 1) := dk_42 (dk_at dksX0_leads_0 8 rfl rfl)
theorem dX0_leads_9 : decode cX0_leads 9 = .ok (.getfield 1, 3) := dk_180 0 1 (dk_at dksX0_leads_0 9 rfl rfl)
theorem dX0_leads_12 : decode cX0_leads 12 = .ok (.iload_n 1, 1) := dk_27 (dk_at dksX0_leads_0 12 rfl rfl)
theorem dX0_leads_13 : decode cX0_leads 13 = .ok (.aaload, 1) := dk_50 (dk_at dksX0_leads_0 13 rfl rfl)
theorem dX0_leads_14 : decode cX0_leads 14 = .ok (.iload_n 2, 1) := dk_28 (dk_at dksX0_leads_0 14 rfl rfl)
theorem dX0_leads_15 : decode cX0_leads 15 = .ok (.iload_n 3, 1) := dk_29 (dk_at dksX0_leads_0 15 rfl rfl)
theorem dX0_leads_16 : decode cX0_leads 16 = .ok (.invokevirtual 31, 3) := dk_182 0 31 (dk_at dksX0_leads_0 16 rfl rfl)
theorem dX0_leads_19 : decode cX0_leads 19 = .ok (.ireturn, 1) := dk_172 (dk_at dksX0_leads_0 19 rfl rfl)
def dkwX0_isAllowed_2 : List UInt8 := [21, 7, 29, 5, 112, 21, 5, 27, 21, 6, 182, 0, 27, 172]
abbrev dktX0_isAllowed_2 : List UInt8 := dkwX0_isAllowed_2 ++ []
def dkwX0_isAllowed_1 : List UInt8 := [153, 0, 20, 42, 180, 0, 17, 21, 7, 21, 5, 27, 21, 6, 182, 0, 21, 167, 0, 20, 42, 180, 0, 17]
abbrev dktX0_isAllowed_1 : List UInt8 := dkwX0_isAllowed_1 ++ dktX0_isAllowed_2
def dkwX0_isAllowed_0 : List UInt8 := [42, 180, 0, 1, 28, 50, 29, 21, 4, 182, 0, 7, 54, 7, 42, 180, 0, 1, 28, 50, 182, 0, 13]
abbrev dktX0_isAllowed_0 : List UInt8 := dkwX0_isAllowed_0 ++ dktX0_isAllowed_1
theorem dksX0_isAllowed_0 : cX0_isAllowed.data.toList.drop 0 = dktX0_isAllowed_0 := by decide +kernel
theorem dksX0_isAllowed_1 : cX0_isAllowed.data.toList.drop 23 = dktX0_isAllowed_1 := dk_seg dksX0_isAllowed_0 23 rfl rfl
theorem dksX0_isAllowed_2 : cX0_isAllowed.data.toList.drop 47 = dktX0_isAllowed_2 := dk_seg dksX0_isAllowed_1 24 rfl rfl
theorem dX0_isAllowed_0 : decode cX0_isAllowed 0 = .ok (.aload_n 0, 1) := dk_42 (dk_at dksX0_isAllowed_0 0 rfl rfl)
theorem dX0_isAllowed_1 : decode cX0_isAllowed 1 = .ok (.getfield 1, 3) := dk_180 0 1 (dk_at dksX0_isAllowed_0 1 rfl rfl)
theorem dX0_isAllowed_4 : decode cX0_isAllowed 4 = .ok (.iload_n 2, 1) := dk_28 (dk_at dksX0_isAllowed_0 4 rfl rfl)
theorem dX0_isAllowed_5 : decode cX0_isAllowed 5 = .ok (.aaload, 1) := dk_50 (dk_at dksX0_isAllowed_0 5 rfl rfl)
theorem dX0_isAllowed_6 : decode cX0_isAllowed 6 = .ok (.iload_n 3, 1) := dk_29 (dk_at dksX0_isAllowed_0 6 rfl rfl)
theorem dX0_isAllowed_7 : decode cX0_isAllowed 7 = .ok (.iload 4, 2) := dk_21 4 (dk_at dksX0_isAllowed_0 7 rfl rfl)
theorem dX0_isAllowed_9 : decode cX0_isAllowed 9 = .ok (.invokevirtual 7, 3) := dk_182 0 7 (dk_at dksX0_isAllowed_0 9 rfl rfl)
theorem dX0_isAllowed_12 : decode cX0_isAllowed 12 = .ok (.istore 7, 2) := dk_54 7 (dk_at dksX0_isAllowed_0 12 rfl rfl)
theorem dX0_isAllowed_14 : decode cX0_isAllowed 14 = .ok (.aload_n 0, 1) := dk_42 (dk_at dksX0_isAllowed_0 14 rfl rfl)
theorem dX0_isAllowed_15 : decode cX0_isAllowed 15 = .ok (.getfield 1, 3) := dk_180 0 1 (dk_at dksX0_isAllowed_0 15 rfl rfl)
theorem dX0_isAllowed_18 : decode cX0_isAllowed 18 = .ok (.iload_n 2, 1) := dk_28 (dk_at dksX0_isAllowed_0 18 rfl rfl)
theorem dX0_isAllowed_19 : decode cX0_isAllowed 19 = .ok (.aaload, 1) := dk_50 (dk_at dksX0_isAllowed_0 19 rfl rfl)
theorem dX0_isAllowed_20 : decode cX0_isAllowed 20 = .ok (.invokevirtual 13, 3) := dk_182 0 13 (dk_at dksX0_isAllowed_0 20 rfl rfl)
theorem dX0_isAllowed_23 : decode cX0_isAllowed 23 = .ok (.ifCond .eq 20, 3) := dk_153 0 20 (dk_at dksX0_isAllowed_1 0 rfl rfl)
theorem dX0_isAllowed_26 : decode cX0_isAllowed 26 = .ok (.aload_n 0, 1) := dk_42 (dk_at dksX0_isAllowed_1 3 rfl rfl)
theorem dX0_isAllowed_27 : decode cX0_isAllowed 27 = .ok (.getfield 17, 3) := dk_180 0 17 (dk_at dksX0_isAllowed_1 4 rfl rfl)
theorem dX0_isAllowed_30 : decode cX0_isAllowed 30 = .ok (.iload 7, 2) := dk_21 7 (dk_at dksX0_isAllowed_1 7 rfl rfl)
theorem dX0_isAllowed_32 : decode cX0_isAllowed 32 = .ok (.iload 5, 2) := dk_21 5 (dk_at dksX0_isAllowed_1 9 rfl rfl)
theorem dX0_isAllowed_34 : decode cX0_isAllowed 34 = .ok (.iload_n 1, 1) := dk_27 (dk_at dksX0_isAllowed_1 11 rfl rfl)
theorem dX0_isAllowed_35 : decode cX0_isAllowed 35 = .ok (.iload 6, 2) := dk_21 6 (dk_at dksX0_isAllowed_1 12 rfl rfl)
theorem dX0_isAllowed_37 : decode cX0_isAllowed 37 = .ok (.invokevirtual 21, 3) := dk_182 0 21 (dk_at dksX0_isAllowed_1 14 rfl rfl)
theorem dX0_isAllowed_40 : decode cX0_isAllowed 40 = .ok (.goto 20, 3) := dk_167 0 20 (dk_at dksX0_isAllowed_1 17 rfl rfl)
theorem dX0_isAllowed_43 : decode cX0_isAllowed 43 = .ok (.aload_n 0, 1) := dk_42 (dk_at dksX0_isAllowed_1 20 rfl rfl)
theorem dX0_isAllowed_44 : decode cX0_isAllowed 44 = .ok (.getfield 17, 3) := dk_180 0 17 (dk_at dksX0_isAllowed_1 21 rfl rfl)
theorem dX0_isAllowed_47 : decode cX0_isAllowed 47 = .ok (.iload 7, 2) := dk_21 7 (dk_at dksX0_isAllowed_2 0 rfl rfl)
theorem dX0_isAllowed_49 : decode cX0_isAllowed 49 = .ok (.iload_n 3, 1) := dk_29 (dk_at dksX0_isAllowed_2 2 rfl rfl)
theorem dX0_isAllowed_50 : decode cX0_isAllowed 50 = .ok (.iconst 2, 1) := dk_5 (dk_at dksX0_isAllowed_2 3 rfl rfl)
theorem dX0_isAllowed_51 : decode cX0_isAllowed 51 = .ok (.irem, 1) := dk_112 (dk_at dksX0_isAllowed_2 4 rfl rfl)
theorem dX0_isAllowed_52 : decode cX0_isAllowed 52 = .ok (.iload 5, 2) := dk_21 5 (dk_at dksX0_isAllowed_2 5 rfl rfl)
theorem dX0_isAllowed_54 : decode cX0_isAllowed 54 = .ok (.iload_n 1, 1) := dk_27 (dk_at dksX0_isAllowed_2 7 rfl rfl)
theorem dX0_isAllowed_55 : decode cX0_isAllowed 55 = .ok (.iload 6, 2) := dk_21 6 (dk_at dksX0_isAllowed_2 8 rfl rfl)
theorem dX0_isAllowed_57 : decode cX0_isAllowed 57 = .ok (.invokevirtual 27, 3) := dk_182 0 27 (dk_at dksX0_isAllowed_2 10 rfl rfl)
theorem dX0_isAllowed_60 : decode cX0_isAllowed 60 = .ok (.ireturn, 1) := dk_172 (dk_at dksX0_isAllowed_2 13 rfl rfl)
def dkwX0_act_2 : List UInt8 := [42, 180, 0, 60, 3, 182, 0, 165, 182, 0, 214, 172]
abbrev dktX0_act_2 : List UInt8 := dkwX0_act_2 ++ []
def dkwX0_act_1 : List UInt8 := [182, 0, 211, 42, 180, 0, 60, 180, 0, 192, 27, 28, 79, 42, 28, 42, 180, 0, 60, 180, 0, 173, 27, 46]
abbrev dktX0_act_1 : List UInt8 := dkwX0_act_1 ++ dktX0_act_2
def dkwX0_act_0 : List UInt8 := [42, 180, 0, 60, 27, 133, 28, 133, 182, 0, 195, 62, 29, 153, 0, 8, 16, 246, 29, 100, 172, 42]
abbrev dktX0_act_0 : List UInt8 := dkwX0_act_0 ++ dktX0_act_1
theorem dksX0_act_0 : cX0_act.data.toList.drop 0 = dktX0_act_0 := by decide +kernel
theorem dksX0_act_1 : cX0_act.data.toList.drop 22 = dktX0_act_1 := dk_seg dksX0_act_0 22 rfl rfl
theorem dksX0_act_2 : cX0_act.data.toList.drop 46 = dktX0_act_2 := dk_seg dksX0_act_1 24 rfl rfl
theorem dX0_act_0 : decode cX0_act 0 = .ok (.aload_n 0, 1) := dk_42 (dk_at dksX0_act_0 0 rfl rfl)
theorem dX0_act_1 : decode cX0_act 1 = .ok (.getfield 60, 3) := dk_180 0 60 (dk_at dksX0_act_0 1 rfl rfl)
theorem dX0_act_4 : decode cX0_act 4 = .ok (.iload_n 1, 1) := dk_27 (dk_at dksX0_act_0 4 rfl rfl)
theorem dX0_act_5 : decode cX0_act 5 = .ok (.i2l, 1) := dk_133 (dk_at dksX0_act_0 5 rfl rfl)
theorem dX0_act_6 : decode cX0_act 6 = .ok (.iload_n 2, 1) := dk_28 (dk_at dksX0_act_0 6 rfl rfl)
theorem dX0_act_7 : decode cX0_act 7 = .ok (.i2l, 1) := dk_133 (dk_at dksX0_act_0 7 rfl rfl)
theorem dX0_act_8 : decode cX0_act 8 = .ok (.invokevirtual 195, 3) := dk_182 0 195 (dk_at dksX0_act_0 8 rfl rfl)
theorem dX0_act_11 : decode cX0_act 11 = .ok (.istore_n 3, 1) := dk_62 (dk_at dksX0_act_0 11 rfl rfl)
theorem dX0_act_12 : decode cX0_act 12 = .ok (.iload_n 3, 1) := dk_29 (dk_at dksX0_act_0 12 rfl rfl)
theorem dX0_act_13 : decode cX0_act 13 = .ok (.ifCond .eq 8, 3) := dk_153 0 8 (dk_at dksX0_act_0 13 rfl rfl)
theorem dX0_act_16 : decode cX0_act 16 = .ok (.bipush (-10), 2) := dk_16 246 (dk_at dksX0_act_0 16 rfl rfl)
theorem dX0_act_18 : decode cX0_act 18 = .ok (.iload_n 3, 1) := dk_29 (dk_at dksX0_act_0 18 rfl rfl)
theorem dX0_act_19 : decode cX0_act 19 = .ok (.isub, 1) := dk_100 (dk_at dksX0_act_0 19 rfl rfl)
theorem dX0_act_20 : decode cX0_act 20 = .ok (.ireturn, 1) := dk_172 (dk_at dksX0_act_0 20 rfl rfl)
theorem dX0_act_21 : decode cX0_act 21 = .ok (.aload_n 0, 1) := dk_42 (dk_at dksX0_act_0 21 rfl rfl)
theorem dX0_act_22 : decode cX0_act 22 = .ok (.invokevirtual 211, 3) := dk_182 0 211 (dk_at dksX0_act_1 0 rfl rfl)
theorem dX0_act_25 : decode cX0_act 25 = .ok (.aload_n 0, 1) := dk_42 (dk_at dksX0_act_1 3 rfl rfl)
theorem dX0_act_26 : decode cX0_act 26 = .ok (.getfield 60, 3) := dk_180 0 60 (dk_at dksX0_act_1 4 rfl rfl)
theorem dX0_act_29 : decode cX0_act 29 = .ok (.getfield 192, 3) := dk_180 0 192 (dk_at dksX0_act_1 7 rfl rfl)
theorem dX0_act_32 : decode cX0_act 32 = .ok (.iload_n 1, 1) := dk_27 (dk_at dksX0_act_1 10 rfl rfl)
theorem dX0_act_33 : decode cX0_act 33 = .ok (.iload_n 2, 1) := dk_28 (dk_at dksX0_act_1 11 rfl rfl)
theorem dX0_act_34 : decode cX0_act 34 = .ok (.iastore, 1) := dk_79 (dk_at dksX0_act_1 12 rfl rfl)
theorem dX0_act_35 : decode cX0_act 35 = .ok (.aload_n 0, 1) := dk_42 (dk_at dksX0_act_1 13 rfl rfl)
theorem dX0_act_36 : decode cX0_act 36 = .ok (.iload_n 2, 1) := dk_28 (dk_at dksX0_act_1 14 rfl rfl)
theorem dX0_act_37 : decode cX0_act 37 = .ok (.aload_n 0, 1) := dk_42 (dk_at dksX0_act_1 15 rfl rfl)
theorem dX0_act_38 : decode cX0_act 38 = .ok (.getfield 60, 3) := dk_180 0 60 (dk_at dksX0_act_1 16 rfl rfl)
theorem dX0_act_41 : decode cX0_act 41 = .ok (.getfield 173, 3) := dk_180 0 173 (dk_at dksX0_act_1 19 rfl rfl)
theorem dX0_act_44 : decode cX0_act 44 = .ok (.iload_n 1, 1) := dk_27 (dk_at dksX0_act_1 22 rfl rfl)
theorem dX0_act_45 : decode cX0_act 45 = .ok (.iaload, 1) := dk_46 (dk_at dksX0_act_1 23 rfl rfl)
theorem dX0_act_46 : decode cX0_act 46 = .ok (.aload_n 0, 1) := dk_42 (dk_at dksX0_act_2 0 rfl rfl)
theorem dX0_act_47 : decode cX0_act 47 = .ok (.getfield 60, 3) := dk_180 0 60 (dk_at dksX0_act_2 1 rfl rfl)
theorem dX0_act_50 : decode cX0_act 50 = .ok (.iconst 0, 1) := dk_3 (dk_at dksX0_act_2 4 rfl rfl)
theorem dX0_act_51 : decode cX0_act 51 = .ok (.invokevirtual 165, 3) := dk_182 0 165 (dk_at dksX0_act_2 5 rfl rfl)
theorem dX0_act_54 : decode cX0_act 54 = .ok (.invokevirtual 214, 3) := dk_182 0 214 (dk_at dksX0_act_2 8 rfl rfl)
theorem dX0_act_57 : decode cX0_act 57 = .ok (.ireturn, 1) := dk_172 (dk_at dksX0_act_2 11 rfl rfl)
def dkwX0_keeps_1 : List UInt8 := [16, 10, 112, 181, 0, 199, 42, 16, 10, 42, 180, 0, 154, 4, 96, 184, 0, 206, 181, 0, 154, 177]
abbrev dktX0_keeps_1 : List UInt8 := dkwX0_keeps_1 ++ []
def dkwX0_keeps_0 : List UInt8 := [42, 180, 0, 75, 42, 180, 0, 199, 50, 42, 180, 0, 60, 182, 0, 202, 87, 42, 42, 180, 0, 199, 4, 96]
abbrev dktX0_keeps_0 : List UInt8 := dkwX0_keeps_0 ++ dktX0_keeps_1
theorem dksX0_keeps_0 : cX0_keeps.data.toList.drop 0 = dktX0_keeps_0 := by decide +kernel
theorem dksX0_keeps_1 : cX0_keeps.data.toList.drop 24 = dktX0_keeps_1 := dk_seg dksX0_keeps_0 24 rfl rfl
theorem dX0_keeps_0 : decode cX0_keeps 0 = .ok (.aload_n 0, 1) := dk_42 (dk_at dksX0_keeps_0 0 rfl rfl)
theorem dX0_keeps_1 : decode cX0_keeps 1 = .ok (.getfield 75, 3) := dk_180 0 75 (dk_at dksX0_keeps_0 1 rfl rfl)
theorem dX0_keeps_4 : decode cX0_keeps 4 = .ok (.aload_n 0, 1) := dk_42 (dk_at dksX0_keeps_0 4 rfl rfl)
theorem dX0_keeps_5 : decode cX0_keeps 5 = .ok (.getfield 199, 3) := dk_180 0 199 (dk_at dksX0_keeps_0 5 rfl rfl)
theorem dX0_keeps_8 : decode cX0_keeps 8 = .ok (.aaload, 1) := dk_50 (dk_at dksX0_keeps_0 8 rfl rfl)
theorem dX0_keeps_9 : decode cX0_keeps 9 = .ok (.aload_n 0, 1) := dk_42 (dk_at dksX0_keeps_0 9 rfl rfl)
theorem dX0_keeps_10 : decode cX0_keeps 10 = .ok (.getfield 60, 3) := dk_180 0 60 (dk_at dksX0_keeps_0 10 rfl rfl)
theorem dX0_keeps_13 : decode cX0_keeps 13 = .ok (.invokevirtual 202, 3) := dk_182 0 202 (dk_at dksX0_keeps_0 13 rfl rfl)
theorem dX0_keeps_16 : decode cX0_keeps 16 = .ok (.pop, 1) := dk_87 (dk_at dksX0_keeps_0 16 rfl rfl)
theorem dX0_keeps_17 : decode cX0_keeps 17 = .ok (.aload_n 0, 1) := dk_42 (dk_at dksX0_keeps_0 17 rfl rfl)
theorem dX0_keeps_18 : decode cX0_keeps 18 = .ok (.aload_n 0, 1) := dk_42 (dk_at dksX0_keeps_0 18 rfl rfl)
theorem dX0_keeps_19 : decode cX0_keeps 19 = .ok (.getfield 199, 3) := dk_180 0 199 (dk_at dksX0_keeps_0 19 rfl rfl)
theorem dX0_keeps_22 : decode cX0_keeps 22 = .ok (.iconst 1, 1) := dk_4 (dk_at dksX0_keeps_0 22 rfl rfl)
theorem dX0_keeps_23 : decode cX0_keeps 23 = .ok (.iadd, 1) := dk_96 (dk_at dksX0_keeps_0 23 rfl rfl)
theorem dX0_keeps_24 : decode cX0_keeps 24 = .ok (.bipush 10, 2) := dk_16 10 (dk_at dksX0_keeps_1 0 rfl rfl)
theorem dX0_keeps_26 : decode cX0_keeps 26 = .ok (.irem, 1) := dk_112 (dk_at dksX0_keeps_1 2 rfl rfl)
theorem dX0_keeps_27 : decode cX0_keeps 27 = .ok (.putfield 199, 3) := dk_181 0 199 (dk_at dksX0_keeps_1 3 rfl rfl)
theorem dX0_keeps_30 : decode cX0_keeps 30 = .ok (.aload_n 0, 1) := dk_42 (dk_at dksX0_keeps_1 6 rfl rfl)
theorem dX0_keeps_31 : decode cX0_keeps 31 = .ok (.bipush 10, 2) := dk_16 10 (dk_at dksX0_keeps_1 7 rfl rfl)
theorem dX0_keeps_33 : decode cX0_keeps 33 = .ok (.aload_n 0, 1) := dk_42 (dk_at dksX0_keeps_1 9 rfl rfl)
theorem dX0_keeps_34 : decode cX0_keeps 34 = .ok (.getfield 154, 3) := dk_180 0 154 (dk_at dksX0_keeps_1 10 rfl rfl)
theorem dX0_keeps_37 : decode cX0_keeps 37 = .ok (.iconst 1, 1) := dk_4 (dk_at dksX0_keeps_1 13 rfl rfl)
theorem dX0_keeps_38 : decode cX0_keeps 38 = .ok (.iadd, 1) := dk_96 (dk_at dksX0_keeps_1 14 rfl rfl)
theorem dX0_keeps_39 : decode cX0_keeps 39 = .ok (.invokestatic 206, 3) := dk_184 0 206 (dk_at dksX0_keeps_1 15 rfl rfl)
theorem dX0_keeps_42 : decode cX0_keeps 42 = .ok (.putfield 154, 3) := dk_181 0 154 (dk_at dksX0_keeps_1 18 rfl rfl)
theorem dX0_keeps_45 : decode cX0_keeps 45 = .ok (.return_, 1) := dk_177 (dk_at dksX0_keeps_1 21 rfl rfl)
def dkwX0_tell_2 : List UInt8 := [180, 0, 60, 180, 0, 225, 27, 46, 62, 42, 180, 0, 60, 180, 0, 225, 27, 28, 79, 29, 172]
abbrev dktX0_tell_2 : List UInt8 := dkwX0_tell_2 ++ []
def dkwX0_tell_1 : List UInt8 := [42, 180, 0, 17, 180, 0, 222, 4, 100, 133, 184, 0, 132, 154, 0, 6, 16, 254, 172, 42, 182, 0, 211, 42]
abbrev dktX0_tell_1 : List UInt8 := dkwX0_tell_1 ++ dktX0_tell_2
def dkwX0_tell_0 : List UInt8 := [27, 133, 9, 42, 180, 0, 17, 180, 0, 217, 4, 100, 133, 184, 0, 132, 153, 0, 24, 28, 133, 20, 0, 220]
abbrev dktX0_tell_0 : List UInt8 := dkwX0_tell_0 ++ dktX0_tell_1
theorem dksX0_tell_0 : cX0_tell.data.toList.drop 0 = dktX0_tell_0 := by decide +kernel
theorem dksX0_tell_1 : cX0_tell.data.toList.drop 24 = dktX0_tell_1 := dk_seg dksX0_tell_0 24 rfl rfl
theorem dksX0_tell_2 : cX0_tell.data.toList.drop 48 = dktX0_tell_2 := dk_seg dksX0_tell_1 24 rfl rfl
theorem dX0_tell_0 : decode cX0_tell 0 = .ok (.iload_n 1, 1) := dk_27 (dk_at dksX0_tell_0 0 rfl rfl)
theorem dX0_tell_1 : decode cX0_tell 1 = .ok (.i2l, 1) := dk_133 (dk_at dksX0_tell_0 1 rfl rfl)
theorem dX0_tell_2 : decode cX0_tell 2 = .ok (.lconst 0, 1) := dk_9 (dk_at dksX0_tell_0 2 rfl rfl)
theorem dX0_tell_3 : decode cX0_tell 3 = .ok (.aload_n 0, 1) := dk_42 (dk_at dksX0_tell_0 3 rfl rfl)
theorem dX0_tell_4 : decode cX0_tell 4 = .ok (.getfield 17, 3) := dk_180 0 17 (dk_at dksX0_tell_0 4 rfl rfl)
theorem dX0_tell_7 : decode cX0_tell 7 = .ok (.getfield 217, 3) := dk_180 0 217 (dk_at dksX0_tell_0 7 rfl rfl)
theorem dX0_tell_10 : decode cX0_tell 10 = .ok (.iconst 1, 1) := dk_4 (dk_at dksX0_tell_0 10 rfl rfl)
theorem dX0_tell_11 : decode cX0_tell 11 = .ok (.isub, 1) := dk_100 (dk_at dksX0_tell_0 11 rfl rfl)
theorem dX0_tell_12 : decode cX0_tell 12 = .ok (.i2l, 1) := dk_133 (dk_at dksX0_tell_0 12 rfl rfl)
theorem dX0_tell_13 : decode cX0_tell 13 = .ok (.invokestatic 132, 3) := dk_184 0 132 (dk_at dksX0_tell_0 13 rfl rfl)
theorem dX0_tell_16 : decode cX0_tell 16 = .ok (.ifCond .eq 24, 3) := dk_153 0 24 (dk_at dksX0_tell_0 16 rfl rfl)
theorem dX0_tell_19 : decode cX0_tell 19 = .ok (.iload_n 2, 1) := dk_28 (dk_at dksX0_tell_0 19 rfl rfl)
theorem dX0_tell_20 : decode cX0_tell 20 = .ok (.i2l, 1) := dk_133 (dk_at dksX0_tell_0 20 rfl rfl)
theorem dX0_tell_21 : decode cX0_tell 21 = .ok (.ldc2_w 220, 3) := dk_20 0 220 (dk_at dksX0_tell_0 21 rfl rfl)
theorem dX0_tell_24 : decode cX0_tell 24 = .ok (.aload_n 0, 1) := dk_42 (dk_at dksX0_tell_1 0 rfl rfl)
theorem dX0_tell_25 : decode cX0_tell 25 = .ok (.getfield 17, 3) := dk_180 0 17 (dk_at dksX0_tell_1 1 rfl rfl)
theorem dX0_tell_28 : decode cX0_tell 28 = .ok (.getfield 222, 3) := dk_180 0 222 (dk_at dksX0_tell_1 4 rfl rfl)
theorem dX0_tell_31 : decode cX0_tell 31 = .ok (.iconst 1, 1) := dk_4 (dk_at dksX0_tell_1 7 rfl rfl)
theorem dX0_tell_32 : decode cX0_tell 32 = .ok (.isub, 1) := dk_100 (dk_at dksX0_tell_1 8 rfl rfl)
theorem dX0_tell_33 : decode cX0_tell 33 = .ok (.i2l, 1) := dk_133 (dk_at dksX0_tell_1 9 rfl rfl)
theorem dX0_tell_34 : decode cX0_tell 34 = .ok (.invokestatic 132, 3) := dk_184 0 132 (dk_at dksX0_tell_1 10 rfl rfl)
theorem dX0_tell_37 : decode cX0_tell 37 = .ok (.ifCond .ne 6, 3) := dk_154 0 6 (dk_at dksX0_tell_1 13 rfl rfl)
theorem dX0_tell_40 : decode cX0_tell 40 = .ok (.bipush (-2), 2) := dk_16 254 (dk_at dksX0_tell_1 16 rfl rfl)
theorem dX0_tell_42 : decode cX0_tell 42 = .ok (.ireturn, 1) := dk_172 (dk_at dksX0_tell_1 18 rfl rfl)
theorem dX0_tell_43 : decode cX0_tell 43 = .ok (.aload_n 0, 1) := dk_42 (dk_at dksX0_tell_1 19 rfl rfl)
theorem dX0_tell_44 : decode cX0_tell 44 = .ok (.invokevirtual 211, 3) := dk_182 0 211 (dk_at dksX0_tell_1 20 rfl rfl)
theorem dX0_tell_47 : decode cX0_tell 47 = .ok (.aload_n 0, 1) := dk_42 (dk_at dksX0_tell_1 23 rfl rfl)
theorem dX0_tell_48 : decode cX0_tell 48 = .ok (.getfield 60, 3) := dk_180 0 60 (dk_at dksX0_tell_2 0 rfl rfl)
theorem dX0_tell_51 : decode cX0_tell 51 = .ok (.getfield 225, 3) := dk_180 0 225 (dk_at dksX0_tell_2 3 rfl rfl)
theorem dX0_tell_54 : decode cX0_tell 54 = .ok (.iload_n 1, 1) := dk_27 (dk_at dksX0_tell_2 6 rfl rfl)
theorem dX0_tell_55 : decode cX0_tell 55 = .ok (.iaload, 1) := dk_46 (dk_at dksX0_tell_2 7 rfl rfl)
theorem dX0_tell_56 : decode cX0_tell 56 = .ok (.istore_n 3, 1) := dk_62 (dk_at dksX0_tell_2 8 rfl rfl)
theorem dX0_tell_57 : decode cX0_tell 57 = .ok (.aload_n 0, 1) := dk_42 (dk_at dksX0_tell_2 9 rfl rfl)
theorem dX0_tell_58 : decode cX0_tell 58 = .ok (.getfield 60, 3) := dk_180 0 60 (dk_at dksX0_tell_2 10 rfl rfl)
theorem dX0_tell_61 : decode cX0_tell 61 = .ok (.getfield 225, 3) := dk_180 0 225 (dk_at dksX0_tell_2 13 rfl rfl)
theorem dX0_tell_64 : decode cX0_tell 64 = .ok (.iload_n 1, 1) := dk_27 (dk_at dksX0_tell_2 16 rfl rfl)
theorem dX0_tell_65 : decode cX0_tell 65 = .ok (.iload_n 2, 1) := dk_28 (dk_at dksX0_tell_2 17 rfl rfl)
theorem dX0_tell_66 : decode cX0_tell 66 = .ok (.iastore, 1) := dk_79 (dk_at dksX0_tell_2 18 rfl rfl)
theorem dX0_tell_67 : decode cX0_tell 67 = .ok (.iload_n 3, 1) := dk_29 (dk_at dksX0_tell_2 19 rfl rfl)
theorem dX0_tell_68 : decode cX0_tell 68 = .ok (.ireturn, 1) := dk_172 (dk_at dksX0_tell_2 20 rfl rfl)
def dkwX0_fog_1 : List UInt8 := [180, 0, 230, 61, 42, 180, 0, 60, 27, 181, 0, 230, 28, 172]
abbrev dktX0_fog_1 : List UInt8 := dkwX0_fog_1 ++ []
def dkwX0_fog_0 : List UInt8 := [27, 133, 9, 20, 0, 228, 184, 0, 132, 154, 0, 6, 16, 253, 172, 42, 182, 0, 211, 42, 180, 0, 60]
abbrev dktX0_fog_0 : List UInt8 := dkwX0_fog_0 ++ dktX0_fog_1
theorem dksX0_fog_0 : cX0_fog.data.toList.drop 0 = dktX0_fog_0 := by decide +kernel
theorem dksX0_fog_1 : cX0_fog.data.toList.drop 23 = dktX0_fog_1 := dk_seg dksX0_fog_0 23 rfl rfl
theorem dX0_fog_0 : decode cX0_fog 0 = .ok (.iload_n 1, 1) := dk_27 (dk_at dksX0_fog_0 0 rfl rfl)
theorem dX0_fog_1 : decode cX0_fog 1 = .ok (.i2l, 1) := dk_133 (dk_at dksX0_fog_0 1 rfl rfl)
theorem dX0_fog_2 : decode cX0_fog 2 = .ok (.lconst 0, 1) := dk_9 (dk_at dksX0_fog_0 2 rfl rfl)
theorem dX0_fog_3 : decode cX0_fog 3 = .ok (.ldc2_w 228, 3) := dk_20 0 228 (dk_at dksX0_fog_0 3 rfl rfl)
theorem dX0_fog_6 : decode cX0_fog 6 = .ok (.invokestatic 132, 3) := dk_184 0 132 (dk_at dksX0_fog_0 6 rfl rfl)
theorem dX0_fog_9 : decode cX0_fog 9 = .ok (.ifCond .ne 6, 3) := dk_154 0 6 (dk_at dksX0_fog_0 9 rfl rfl)
theorem dX0_fog_12 : decode cX0_fog 12 = .ok (.bipush (-3), 2) := dk_16 253 (dk_at dksX0_fog_0 12 rfl rfl)
theorem dX0_fog_14 : decode cX0_fog 14 = .ok (.ireturn, 1) := dk_172 (dk_at dksX0_fog_0 14 rfl rfl)
theorem dX0_fog_15 : decode cX0_fog 15 = .ok (.aload_n 0, 1) := dk_42 (dk_at dksX0_fog_0 15 rfl rfl)
theorem dX0_fog_16 : decode cX0_fog 16 = .ok (.invokevirtual 211, 3) := dk_182 0 211 (dk_at dksX0_fog_0 16 rfl rfl)
theorem dX0_fog_19 : decode cX0_fog 19 = .ok (.aload_n 0, 1) := dk_42 (dk_at dksX0_fog_0 19 rfl rfl)
theorem dX0_fog_20 : decode cX0_fog 20 = .ok (.getfield 60, 3) := dk_180 0 60 (dk_at dksX0_fog_0 20 rfl rfl)
theorem dX0_fog_23 : decode cX0_fog 23 = .ok (.getfield 230, 3) := dk_180 0 230 (dk_at dksX0_fog_1 0 rfl rfl)
theorem dX0_fog_26 : decode cX0_fog 26 = .ok (.istore_n 2, 1) := dk_61 (dk_at dksX0_fog_1 3 rfl rfl)
theorem dX0_fog_27 : decode cX0_fog 27 = .ok (.aload_n 0, 1) := dk_42 (dk_at dksX0_fog_1 4 rfl rfl)
theorem dX0_fog_28 : decode cX0_fog 28 = .ok (.getfield 60, 3) := dk_180 0 60 (dk_at dksX0_fog_1 5 rfl rfl)
theorem dX0_fog_31 : decode cX0_fog 31 = .ok (.iload_n 1, 1) := dk_27 (dk_at dksX0_fog_1 8 rfl rfl)
theorem dX0_fog_32 : decode cX0_fog 32 = .ok (.putfield 230, 3) := dk_181 0 230 (dk_at dksX0_fog_1 9 rfl rfl)
theorem dX0_fog_35 : decode cX0_fog 35 = .ok (.iload_n 2, 1) := dk_28 (dk_at dksX0_fog_1 12 rfl rfl)
theorem dX0_fog_36 : decode cX0_fog 36 = .ok (.ireturn, 1) := dk_172 (dk_at dksX0_fog_1 13 rfl rfl)
def dkwX0_hours_1 : List UInt8 := [27, 162, 0, 19, 28, 42, 180, 0, 60, 182, 0, 235, 96, 61, 132, 3, 1, 167, 255, 238, 28, 172]
abbrev dktX0_hours_1 : List UInt8 := dkwX0_hours_1 ++ []
def dkwX0_hours_0 : List UInt8 := [27, 133, 10, 20, 0, 233, 184, 0, 132, 154, 0, 6, 16, 253, 172, 42, 182, 0, 211, 3, 61, 3, 62, 29]
abbrev dktX0_hours_0 : List UInt8 := dkwX0_hours_0 ++ dktX0_hours_1
theorem dksX0_hours_0 : cX0_hours.data.toList.drop 0 = dktX0_hours_0 := by decide +kernel
theorem dksX0_hours_1 : cX0_hours.data.toList.drop 24 = dktX0_hours_1 := dk_seg dksX0_hours_0 24 rfl rfl
theorem dX0_hours_0 : decode cX0_hours 0 = .ok (.iload_n 1, 1) := dk_27 (dk_at dksX0_hours_0 0 rfl rfl)
theorem dX0_hours_1 : decode cX0_hours 1 = .ok (.i2l, 1) := dk_133 (dk_at dksX0_hours_0 1 rfl rfl)
theorem dX0_hours_2 : decode cX0_hours 2 = .ok (.lconst 1, 1) := dk_10 (dk_at dksX0_hours_0 2 rfl rfl)
theorem dX0_hours_3 : decode cX0_hours 3 = .ok (.ldc2_w 233, 3) := dk_20 0 233 (dk_at dksX0_hours_0 3 rfl rfl)
theorem dX0_hours_6 : decode cX0_hours 6 = .ok (.invokestatic 132, 3) := dk_184 0 132 (dk_at dksX0_hours_0 6 rfl rfl)
theorem dX0_hours_9 : decode cX0_hours 9 = .ok (.ifCond .ne 6, 3) := dk_154 0 6 (dk_at dksX0_hours_0 9 rfl rfl)
theorem dX0_hours_12 : decode cX0_hours 12 = .ok (.bipush (-3), 2) := dk_16 253 (dk_at dksX0_hours_0 12 rfl rfl)
theorem dX0_hours_14 : decode cX0_hours 14 = .ok (.ireturn, 1) := dk_172 (dk_at dksX0_hours_0 14 rfl rfl)
theorem dX0_hours_15 : decode cX0_hours 15 = .ok (.aload_n 0, 1) := dk_42 (dk_at dksX0_hours_0 15 rfl rfl)
theorem dX0_hours_16 : decode cX0_hours 16 = .ok (.invokevirtual 211, 3) := dk_182 0 211 (dk_at dksX0_hours_0 16 rfl rfl)
theorem dX0_hours_19 : decode cX0_hours 19 = .ok (.iconst 0, 1) := dk_3 (dk_at dksX0_hours_0 19 rfl rfl)
theorem dX0_hours_20 : decode cX0_hours 20 = .ok (.istore_n 2, 1) := dk_61 (dk_at dksX0_hours_0 20 rfl rfl)
theorem dX0_hours_21 : decode cX0_hours 21 = .ok (.iconst 0, 1) := dk_3 (dk_at dksX0_hours_0 21 rfl rfl)
theorem dX0_hours_22 : decode cX0_hours 22 = .ok (.istore_n 3, 1) := dk_62 (dk_at dksX0_hours_0 22 rfl rfl)
theorem dX0_hours_23 : decode cX0_hours 23 = .ok (.iload_n 3, 1) := dk_29 (dk_at dksX0_hours_0 23 rfl rfl)
theorem dX0_hours_24 : decode cX0_hours 24 = .ok (.iload_n 1, 1) := dk_27 (dk_at dksX0_hours_1 0 rfl rfl)
theorem dX0_hours_25 : decode cX0_hours 25 = .ok (.if_icmp .ge 19, 3) := dk_162 0 19 (dk_at dksX0_hours_1 1 rfl rfl)
theorem dX0_hours_28 : decode cX0_hours 28 = .ok (.iload_n 2, 1) := dk_28 (dk_at dksX0_hours_1 4 rfl rfl)
theorem dX0_hours_29 : decode cX0_hours 29 = .ok (.aload_n 0, 1) := dk_42 (dk_at dksX0_hours_1 5 rfl rfl)
theorem dX0_hours_30 : decode cX0_hours 30 = .ok (.getfield 60, 3) := dk_180 0 60 (dk_at dksX0_hours_1 6 rfl rfl)
theorem dX0_hours_33 : decode cX0_hours 33 = .ok (.invokevirtual 235, 3) := dk_182 0 235 (dk_at dksX0_hours_1 9 rfl rfl)
theorem dX0_hours_36 : decode cX0_hours 36 = .ok (.iadd, 1) := dk_96 (dk_at dksX0_hours_1 12 rfl rfl)
theorem dX0_hours_37 : decode cX0_hours 37 = .ok (.istore_n 2, 1) := dk_61 (dk_at dksX0_hours_1 13 rfl rfl)
theorem dX0_hours_38 : decode cX0_hours 38 = .ok (.iinc 3 1, 3) := dk_132 3 1 (dk_at dksX0_hours_1 14 rfl rfl)
theorem dX0_hours_41 : decode cX0_hours 41 = .ok (.goto (-18), 3) := dk_167 255 238 (dk_at dksX0_hours_1 17 rfl rfl)
theorem dX0_hours_44 : decode cX0_hours 44 = .ok (.iload_n 2, 1) := dk_28 (dk_at dksX0_hours_1 20 rfl rfl)
theorem dX0_hours_45 : decode cX0_hours 45 = .ok (.ireturn, 1) := dk_172 (dk_at dksX0_hours_1 21 rfl rfl)
def dkwX0_undo_2 : List UInt8 := [180, 0, 75, 42, 180, 0, 199, 50, 182, 0, 202, 87, 42, 180, 0, 154, 172]
abbrev dktX0_undo_2 : List UInt8 := dkwX0_undo_2 ++ []
def dkwX0_undo_1 : List UInt8 := [96, 27, 100, 16, 10, 112, 181, 0, 199, 42, 89, 180, 0, 154, 27, 100, 181, 0, 154, 42, 180, 0, 60, 42]
abbrev dktX0_undo_1 : List UInt8 := dkwX0_undo_1 ++ dktX0_undo_2
def dkwX0_undo_0 : List UInt8 := [27, 133, 10, 42, 180, 0, 154, 133, 184, 0, 132, 154, 0, 6, 16, 253, 172, 42, 42, 180, 0, 199, 16, 10]
abbrev dktX0_undo_0 : List UInt8 := dkwX0_undo_0 ++ dktX0_undo_1
theorem dksX0_undo_0 : cX0_undo.data.toList.drop 0 = dktX0_undo_0 := by decide +kernel
theorem dksX0_undo_1 : cX0_undo.data.toList.drop 24 = dktX0_undo_1 := dk_seg dksX0_undo_0 24 rfl rfl
theorem dksX0_undo_2 : cX0_undo.data.toList.drop 48 = dktX0_undo_2 := dk_seg dksX0_undo_1 24 rfl rfl
theorem dX0_undo_0 : decode cX0_undo 0 = .ok (.iload_n 1, 1) := dk_27 (dk_at dksX0_undo_0 0 rfl rfl)
theorem dX0_undo_1 : decode cX0_undo 1 = .ok (.i2l, 1) := dk_133 (dk_at dksX0_undo_0 1 rfl rfl)
theorem dX0_undo_2 : decode cX0_undo 2 = .ok (.lconst 1, 1) := dk_10 (dk_at dksX0_undo_0 2 rfl rfl)
theorem dX0_undo_3 : decode cX0_undo 3 = .ok (.aload_n 0, 1) := dk_42 (dk_at dksX0_undo_0 3 rfl rfl)
theorem dX0_undo_4 : decode cX0_undo 4 = .ok (.getfield 154, 3) := dk_180 0 154 (dk_at dksX0_undo_0 4 rfl rfl)
theorem dX0_undo_7 : decode cX0_undo 7 = .ok (.i2l, 1) := dk_133 (dk_at dksX0_undo_0 7 rfl rfl)
theorem dX0_undo_8 : decode cX0_undo 8 = .ok (.invokestatic 132, 3) := dk_184 0 132 (dk_at dksX0_undo_0 8 rfl rfl)
theorem dX0_undo_11 : decode cX0_undo 11 = .ok (.ifCond .ne 6, 3) := dk_154 0 6 (dk_at dksX0_undo_0 11 rfl rfl)
theorem dX0_undo_14 : decode cX0_undo 14 = .ok (.bipush (-3), 2) := dk_16 253 (dk_at dksX0_undo_0 14 rfl rfl)
theorem dX0_undo_16 : decode cX0_undo 16 = .ok (.ireturn, 1) := dk_172 (dk_at dksX0_undo_0 16 rfl rfl)
theorem dX0_undo_17 : decode cX0_undo 17 = .ok (.aload_n 0, 1) := dk_42 (dk_at dksX0_undo_0 17 rfl rfl)
theorem dX0_undo_18 : decode cX0_undo 18 = .ok (.aload_n 0, 1) := dk_42 (dk_at dksX0_undo_0 18 rfl rfl)
theorem dX0_undo_19 : decode cX0_undo 19 = .ok (.getfield 199, 3) := dk_180 0 199 (dk_at dksX0_undo_0 19 rfl rfl)
theorem dX0_undo_22 : decode cX0_undo 22 = .ok (.bipush 10, 2) := dk_16 10 (dk_at dksX0_undo_0 22 rfl rfl)
theorem dX0_undo_24 : decode cX0_undo 24 = .ok (.iadd, 1) := dk_96 (dk_at dksX0_undo_1 0 rfl rfl)
theorem dX0_undo_25 : decode cX0_undo 25 = .ok (.iload_n 1, 1) := dk_27 (dk_at dksX0_undo_1 1 rfl rfl)
theorem dX0_undo_26 : decode cX0_undo 26 = .ok (.isub, 1) := dk_100 (dk_at dksX0_undo_1 2 rfl rfl)
theorem dX0_undo_27 : decode cX0_undo 27 = .ok (.bipush 10, 2) := dk_16 10 (dk_at dksX0_undo_1 3 rfl rfl)
theorem dX0_undo_29 : decode cX0_undo 29 = .ok (.irem, 1) := dk_112 (dk_at dksX0_undo_1 5 rfl rfl)
theorem dX0_undo_30 : decode cX0_undo 30 = .ok (.putfield 199, 3) := dk_181 0 199 (dk_at dksX0_undo_1 6 rfl rfl)
theorem dX0_undo_33 : decode cX0_undo 33 = .ok (.aload_n 0, 1) := dk_42 (dk_at dksX0_undo_1 9 rfl rfl)
theorem dX0_undo_34 : decode cX0_undo 34 = .ok (.dup, 1) := dk_89 (dk_at dksX0_undo_1 10 rfl rfl)
theorem dX0_undo_35 : decode cX0_undo 35 = .ok (.getfield 154, 3) := dk_180 0 154 (dk_at dksX0_undo_1 11 rfl rfl)
theorem dX0_undo_38 : decode cX0_undo 38 = .ok (.iload_n 1, 1) := dk_27 (dk_at dksX0_undo_1 14 rfl rfl)
theorem dX0_undo_39 : decode cX0_undo 39 = .ok (.isub, 1) := dk_100 (dk_at dksX0_undo_1 15 rfl rfl)
theorem dX0_undo_40 : decode cX0_undo 40 = .ok (.putfield 154, 3) := dk_181 0 154 (dk_at dksX0_undo_1 16 rfl rfl)
theorem dX0_undo_43 : decode cX0_undo 43 = .ok (.aload_n 0, 1) := dk_42 (dk_at dksX0_undo_1 19 rfl rfl)
theorem dX0_undo_44 : decode cX0_undo 44 = .ok (.getfield 60, 3) := dk_180 0 60 (dk_at dksX0_undo_1 20 rfl rfl)
theorem dX0_undo_47 : decode cX0_undo 47 = .ok (.aload_n 0, 1) := dk_42 (dk_at dksX0_undo_1 23 rfl rfl)
theorem dX0_undo_48 : decode cX0_undo 48 = .ok (.getfield 75, 3) := dk_180 0 75 (dk_at dksX0_undo_2 0 rfl rfl)
theorem dX0_undo_51 : decode cX0_undo 51 = .ok (.aload_n 0, 1) := dk_42 (dk_at dksX0_undo_2 3 rfl rfl)
theorem dX0_undo_52 : decode cX0_undo 52 = .ok (.getfield 199, 3) := dk_180 0 199 (dk_at dksX0_undo_2 4 rfl rfl)
theorem dX0_undo_55 : decode cX0_undo 55 = .ok (.aaload, 1) := dk_50 (dk_at dksX0_undo_2 7 rfl rfl)
theorem dX0_undo_56 : decode cX0_undo 56 = .ok (.invokevirtual 202, 3) := dk_182 0 202 (dk_at dksX0_undo_2 8 rfl rfl)
theorem dX0_undo_59 : decode cX0_undo 59 = .ok (.pop, 1) := dk_87 (dk_at dksX0_undo_2 11 rfl rfl)
theorem dX0_undo_60 : decode cX0_undo 60 = .ok (.aload_n 0, 1) := dk_42 (dk_at dksX0_undo_2 12 rfl rfl)
theorem dX0_undo_61 : decode cX0_undo 61 = .ok (.getfield 154, 3) := dk_180 0 154 (dk_at dksX0_undo_2 13 rfl rfl)
theorem dX0_undo_64 : decode cX0_undo 64 = .ok (.ireturn, 1) := dk_172 (dk_at dksX0_undo_2 16 rfl rfl)
def dkwX0_judge_5 : List UInt8 := [180, 0, 64, 180, 0, 185, 172, 42, 180, 0, 64, 180, 1, 4, 172]
abbrev dktX0_judge_5 : List UInt8 := dkwX0_judge_5 ++ []
def dkwX0_judge_4 : List UInt8 := [160, 0, 7, 3, 167, 0, 17, 42, 180, 0, 64, 25, 4, 21, 5, 182, 0, 241, 182, 0, 245, 172, 42]
abbrev dktX0_judge_4 : List UInt8 := dkwX0_judge_4 ++ dktX0_judge_5
def dkwX0_judge_3 : List UInt8 := [21, 5, 25, 4, 182, 0, 239, 160, 0, 7, 2, 167, 0, 5, 21, 5, 172, 21, 5, 25, 4, 182, 0, 239]
abbrev dktX0_judge_3 : List UInt8 := dkwX0_judge_3 ++ dktX0_judge_4
def dkwX0_judge_2 : List UInt8 := [170, 0, 0, 0, 0, 80, 0, 0, 0, 0, 0, 0, 0, 2, 0, 0, 0, 26, 0, 0, 0, 43, 0, 0, 0, 72]
abbrev dktX0_judge_2 : List UInt8 := dkwX0_judge_2 ++ dktX0_judge_3
def dkwX0_judge_1 : List UInt8 := [153, 0, 5, 29, 172, 42, 180, 0, 111, 27, 50, 58, 4, 42, 25, 4, 182, 1, 1, 54, 5, 28]
abbrev dktX0_judge_1 : List UInt8 := dkwX0_judge_1 ++ dktX0_judge_2
def dkwX0_judge_0 : List UInt8 := [28, 133, 9, 20, 0, 252, 184, 0, 132, 153, 0, 11, 42, 27, 182, 0, 254, 167, 0, 5, 16, 254, 62, 29]
abbrev dktX0_judge_0 : List UInt8 := dkwX0_judge_0 ++ dktX0_judge_1
theorem dksX0_judge_0 : cX0_judge.data.toList.drop 0 = dktX0_judge_0 := by decide +kernel
theorem dksX0_judge_1 : cX0_judge.data.toList.drop 24 = dktX0_judge_1 := dk_seg dksX0_judge_0 24 rfl rfl
theorem dksX0_judge_2 : cX0_judge.data.toList.drop 46 = dktX0_judge_2 := dk_seg dksX0_judge_1 22 rfl rfl
theorem dksX0_judge_3 : cX0_judge.data.toList.drop 72 = dktX0_judge_3 := dk_seg dksX0_judge_2 26 rfl rfl
theorem dksX0_judge_4 : cX0_judge.data.toList.drop 96 = dktX0_judge_4 := dk_seg dksX0_judge_3 24 rfl rfl
theorem dksX0_judge_5 : cX0_judge.data.toList.drop 119 = dktX0_judge_5 := dk_seg dksX0_judge_4 23 rfl rfl
theorem dX0_judge_0 : decode cX0_judge 0 = .ok (.iload_n 2, 1) := dk_28 (dk_at dksX0_judge_0 0 rfl rfl)
theorem dX0_judge_1 : decode cX0_judge 1 = .ok (.i2l, 1) := dk_133 (dk_at dksX0_judge_0 1 rfl rfl)
theorem dX0_judge_2 : decode cX0_judge 2 = .ok (.lconst 0, 1) := dk_9 (dk_at dksX0_judge_0 2 rfl rfl)
theorem dX0_judge_3 : decode cX0_judge 3 = .ok (.ldc2_w 252, 3) := dk_20 0 252 (dk_at dksX0_judge_0 3 rfl rfl)
theorem dX0_judge_6 : decode cX0_judge 6 = .ok (.invokestatic 132, 3) := dk_184 0 132 (dk_at dksX0_judge_0 6 rfl rfl)
theorem dX0_judge_9 : decode cX0_judge 9 = .ok (.ifCond .eq 11, 3) := dk_153 0 11 (dk_at dksX0_judge_0 9 rfl rfl)
theorem dX0_judge_12 : decode cX0_judge 12 = .ok (.aload_n 0, 1) := dk_42 (dk_at dksX0_judge_0 12 rfl rfl)
theorem dX0_judge_13 : decode cX0_judge 13 = .ok (.iload_n 1, 1) := dk_27 (dk_at dksX0_judge_0 13 rfl rfl)
theorem dX0_judge_14 : decode cX0_judge 14 = .ok (.invokevirtual 254, 3) := dk_182 0 254 (dk_at dksX0_judge_0 14 rfl rfl)
theorem dX0_judge_17 : decode cX0_judge 17 = .ok (.goto 5, 3) := dk_167 0 5 (dk_at dksX0_judge_0 17 rfl rfl)
theorem dX0_judge_20 : decode cX0_judge 20 = .ok (.bipush (-2), 2) := dk_16 254 (dk_at dksX0_judge_0 20 rfl rfl)
theorem dX0_judge_22 : decode cX0_judge 22 = .ok (.istore_n 3, 1) := dk_62 (dk_at dksX0_judge_0 22 rfl rfl)
theorem dX0_judge_23 : decode cX0_judge 23 = .ok (.iload_n 3, 1) := dk_29 (dk_at dksX0_judge_0 23 rfl rfl)
theorem dX0_judge_24 : decode cX0_judge 24 = .ok (.ifCond .eq 5, 3) := dk_153 0 5 (dk_at dksX0_judge_1 0 rfl rfl)
theorem dX0_judge_27 : decode cX0_judge 27 = .ok (.iload_n 3, 1) := dk_29 (dk_at dksX0_judge_1 3 rfl rfl)
theorem dX0_judge_28 : decode cX0_judge 28 = .ok (.ireturn, 1) := dk_172 (dk_at dksX0_judge_1 4 rfl rfl)
theorem dX0_judge_29 : decode cX0_judge 29 = .ok (.aload_n 0, 1) := dk_42 (dk_at dksX0_judge_1 5 rfl rfl)
theorem dX0_judge_30 : decode cX0_judge 30 = .ok (.getfield 111, 3) := dk_180 0 111 (dk_at dksX0_judge_1 6 rfl rfl)
theorem dX0_judge_33 : decode cX0_judge 33 = .ok (.iload_n 1, 1) := dk_27 (dk_at dksX0_judge_1 9 rfl rfl)
theorem dX0_judge_34 : decode cX0_judge 34 = .ok (.aaload, 1) := dk_50 (dk_at dksX0_judge_1 10 rfl rfl)
theorem dX0_judge_35 : decode cX0_judge 35 = .ok (.astore 4, 2) := dk_58 4 (dk_at dksX0_judge_1 11 rfl rfl)
theorem dX0_judge_37 : decode cX0_judge 37 = .ok (.aload_n 0, 1) := dk_42 (dk_at dksX0_judge_1 13 rfl rfl)
theorem dX0_judge_38 : decode cX0_judge 38 = .ok (.aload 4, 2) := dk_25 4 (dk_at dksX0_judge_1 14 rfl rfl)
theorem dX0_judge_40 : decode cX0_judge 40 = .ok (.invokevirtual 257, 3) := dk_182 1 1 (dk_at dksX0_judge_1 16 rfl rfl)
theorem dX0_judge_43 : decode cX0_judge 43 = .ok (.istore 5, 2) := dk_54 5 (dk_at dksX0_judge_1 19 rfl rfl)
theorem dX0_judge_45 : decode cX0_judge 45 = .ok (.iload_n 2, 1) := dk_28 (dk_at dksX0_judge_1 21 rfl rfl)
theorem dX0_judge_46 : decode cX0_judge 46 = .ok (.tableswitch 80 0 2 #[26, 43, 72], 26) := by decide +kernel
theorem dX0_judge_72 : decode cX0_judge 72 = .ok (.iload 5, 2) := dk_21 5 (dk_at dksX0_judge_3 0 rfl rfl)
theorem dX0_judge_74 : decode cX0_judge 74 = .ok (.aload 4, 2) := dk_25 4 (dk_at dksX0_judge_3 2 rfl rfl)
theorem dX0_judge_76 : decode cX0_judge 76 = .ok (.invokevirtual 239, 3) := dk_182 0 239 (dk_at dksX0_judge_3 4 rfl rfl)
theorem dX0_judge_79 : decode cX0_judge 79 = .ok (.if_icmp .ne 7, 3) := dk_160 0 7 (dk_at dksX0_judge_3 7 rfl rfl)
theorem dX0_judge_82 : decode cX0_judge 82 = .ok (.iconst (-1), 1) := dk_2 (dk_at dksX0_judge_3 10 rfl rfl)
theorem dX0_judge_83 : decode cX0_judge 83 = .ok (.goto 5, 3) := dk_167 0 5 (dk_at dksX0_judge_3 11 rfl rfl)
theorem dX0_judge_86 : decode cX0_judge 86 = .ok (.iload 5, 2) := dk_21 5 (dk_at dksX0_judge_3 14 rfl rfl)
theorem dX0_judge_88 : decode cX0_judge 88 = .ok (.ireturn, 1) := dk_172 (dk_at dksX0_judge_3 16 rfl rfl)
theorem dX0_judge_89 : decode cX0_judge 89 = .ok (.iload 5, 2) := dk_21 5 (dk_at dksX0_judge_3 17 rfl rfl)
theorem dX0_judge_91 : decode cX0_judge 91 = .ok (.aload 4, 2) := dk_25 4 (dk_at dksX0_judge_3 19 rfl rfl)
theorem dX0_judge_93 : decode cX0_judge 93 = .ok (.invokevirtual 239, 3) := dk_182 0 239 (dk_at dksX0_judge_3 21 rfl rfl)
theorem dX0_judge_96 : decode cX0_judge 96 = .ok (.if_icmp .ne 7, 3) := dk_160 0 7 (dk_at dksX0_judge_4 0 rfl rfl)
theorem dX0_judge_99 : decode cX0_judge 99 = .ok (.iconst 0, 1) := dk_3 (dk_at dksX0_judge_4 3 rfl rfl)
theorem dX0_judge_100 : decode cX0_judge 100 = .ok (.goto 17, 3) := dk_167 0 17 (dk_at dksX0_judge_4 4 rfl rfl)
theorem dX0_judge_103 : decode cX0_judge 103 = .ok (.aload_n 0, 1) := dk_42 (dk_at dksX0_judge_4 7 rfl rfl)
theorem dX0_judge_104 : decode cX0_judge 104 = .ok (.getfield 64, 3) := dk_180 0 64 (dk_at dksX0_judge_4 8 rfl rfl)
theorem dX0_judge_107 : decode cX0_judge 107 = .ok (.aload 4, 2) := dk_25 4 (dk_at dksX0_judge_4 11 rfl rfl)
theorem dX0_judge_109 : decode cX0_judge 109 = .ok (.iload 5, 2) := dk_21 5 (dk_at dksX0_judge_4 13 rfl rfl)
theorem dX0_judge_111 : decode cX0_judge 111 = .ok (.invokevirtual 241, 3) := dk_182 0 241 (dk_at dksX0_judge_4 15 rfl rfl)
theorem dX0_judge_114 : decode cX0_judge 114 = .ok (.invokevirtual 245, 3) := dk_182 0 245 (dk_at dksX0_judge_4 18 rfl rfl)
theorem dX0_judge_117 : decode cX0_judge 117 = .ok (.ireturn, 1) := dk_172 (dk_at dksX0_judge_4 21 rfl rfl)
theorem dX0_judge_118 : decode cX0_judge 118 = .ok (.aload_n 0, 1) := dk_42 (dk_at dksX0_judge_4 22 rfl rfl)
theorem dX0_judge_119 : decode cX0_judge 119 = .ok (.getfield 64, 3) := dk_180 0 64 (dk_at dksX0_judge_5 0 rfl rfl)
theorem dX0_judge_122 : decode cX0_judge 122 = .ok (.getfield 185, 3) := dk_180 0 185 (dk_at dksX0_judge_5 3 rfl rfl)
theorem dX0_judge_125 : decode cX0_judge 125 = .ok (.ireturn, 1) := dk_172 (dk_at dksX0_judge_5 6 rfl rfl)
theorem dX0_judge_126 : decode cX0_judge 126 = .ok (.aload_n 0, 1) := dk_42 (dk_at dksX0_judge_5 7 rfl rfl)
theorem dX0_judge_127 : decode cX0_judge 127 = .ok (.getfield 64, 3) := dk_180 0 64 (dk_at dksX0_judge_5 8 rfl rfl)
theorem dX0_judge_130 : decode cX0_judge 130 = .ok (.getfield 260, 3) := dk_180 1 4 (dk_at dksX0_judge_5 11 rfl rfl)
theorem dX0_judge_133 : decode cX0_judge 133 = .ok (.ireturn, 1) := dk_172 (dk_at dksX0_judge_5 14 rfl rfl)
def dkwX0_trayFault_1 : List UInt8 := [16, 250, 167, 0, 4, 3, 172]
abbrev dktX0_trayFault_1 : List UInt8 := dkwX0_trayFault_1 ++ []
def dkwX0_trayFault_0 : List UInt8 := [27, 184, 1, 166, 154, 0, 8, 16, 254, 167, 0, 21, 42, 180, 0, 111, 27, 50, 180, 1, 169, 199, 0, 8]
abbrev dktX0_trayFault_0 : List UInt8 := dkwX0_trayFault_0 ++ dktX0_trayFault_1
theorem dksX0_trayFault_0 : cX0_trayFault.data.toList.drop 0 = dktX0_trayFault_0 := by decide +kernel
theorem dksX0_trayFault_1 : cX0_trayFault.data.toList.drop 24 = dktX0_trayFault_1 := dk_seg dksX0_trayFault_0 24 rfl rfl
theorem dX0_trayFault_0 : decode cX0_trayFault 0 = .ok (.iload_n 1, 1) := dk_27 (dk_at dksX0_trayFault_0 0 rfl rfl)
theorem dX0_trayFault_1 : decode cX0_trayFault 1 = .ok (.invokestatic 422, 3) := dk_184 1 166 (dk_at dksX0_trayFault_0 1 rfl rfl)
theorem dX0_trayFault_4 : decode cX0_trayFault 4 = .ok (.ifCond .ne 8, 3) := dk_154 0 8 (dk_at dksX0_trayFault_0 4 rfl rfl)
theorem dX0_trayFault_7 : decode cX0_trayFault 7 = .ok (.bipush (-2), 2) := dk_16 254 (dk_at dksX0_trayFault_0 7 rfl rfl)
theorem dX0_trayFault_9 : decode cX0_trayFault 9 = .ok (.goto 21, 3) := dk_167 0 21 (dk_at dksX0_trayFault_0 9 rfl rfl)
theorem dX0_trayFault_12 : decode cX0_trayFault 12 = .ok (.aload_n 0, 1) := dk_42 (dk_at dksX0_trayFault_0 12 rfl rfl)
theorem dX0_trayFault_13 : decode cX0_trayFault 13 = .ok (.getfield 111, 3) := dk_180 0 111 (dk_at dksX0_trayFault_0 13 rfl rfl)
theorem dX0_trayFault_16 : decode cX0_trayFault 16 = .ok (.iload_n 1, 1) := dk_27 (dk_at dksX0_trayFault_0 16 rfl rfl)
theorem dX0_trayFault_17 : decode cX0_trayFault 17 = .ok (.aaload, 1) := dk_50 (dk_at dksX0_trayFault_0 17 rfl rfl)
theorem dX0_trayFault_18 : decode cX0_trayFault 18 = .ok (.getfield 425, 3) := dk_180 1 169 (dk_at dksX0_trayFault_0 18 rfl rfl)
theorem dX0_trayFault_21 : decode cX0_trayFault 21 = .ok (.ifnonnull 8, 3) := dk_199 0 8 (dk_at dksX0_trayFault_0 21 rfl rfl)
theorem dX0_trayFault_24 : decode cX0_trayFault 24 = .ok (.bipush (-6), 2) := dk_16 250 (dk_at dksX0_trayFault_1 0 rfl rfl)
theorem dX0_trayFault_26 : decode cX0_trayFault 26 = .ok (.goto 4, 3) := dk_167 0 4 (dk_at dksX0_trayFault_1 2 rfl rfl)
theorem dX0_trayFault_29 : decode cX0_trayFault 29 = .ok (.iconst 0, 1) := dk_3 (dk_at dksX0_trayFault_1 5 rfl rfl)
theorem dX0_trayFault_30 : decode cX0_trayFault 30 = .ok (.ireturn, 1) := dk_172 (dk_at dksX0_trayFault_1 6 rfl rfl)
def dkwX0_isTray_0 : List UInt8 := [26, 133, 9, 20, 0, 252, 184, 0, 132, 172]
abbrev dktX0_isTray_0 : List UInt8 := dkwX0_isTray_0 ++ []
theorem dksX0_isTray_0 : cX0_isTray.data.toList.drop 0 = dktX0_isTray_0 := by decide +kernel
theorem dX0_isTray_0 : decode cX0_isTray 0 = .ok (.iload_n 0, 1) := dk_26 (dk_at dksX0_isTray_0 0 rfl rfl)
theorem dX0_isTray_1 : decode cX0_isTray 1 = .ok (.i2l, 1) := dk_133 (dk_at dksX0_isTray_0 1 rfl rfl)
theorem dX0_isTray_2 : decode cX0_isTray 2 = .ok (.lconst 0, 1) := dk_9 (dk_at dksX0_isTray_0 2 rfl rfl)
theorem dX0_isTray_3 : decode cX0_isTray 3 = .ok (.ldc2_w 252, 3) := dk_20 0 252 (dk_at dksX0_isTray_0 3 rfl rfl)
theorem dX0_isTray_6 : decode cX0_isTray 6 = .ok (.invokestatic 132, 3) := dk_184 0 132 (dk_at dksX0_isTray_0 6 rfl rfl)
theorem dX0_isTray_9 : decode cX0_isTray 9 = .ok (.ireturn, 1) := dk_172 (dk_at dksX0_isTray_0 9 rfl rfl)
def dkwX0_goes_2 : List UInt8 := [182, 0, 249, 132, 2, 1, 167, 255, 217, 28, 172]
abbrev dktX0_goes_2 : List UInt8 := dkwX0_goes_2 ++ []
def dkwX0_goes_1 : List UInt8 := [180, 0, 64, 43, 28, 182, 0, 241, 182, 0, 245, 154, 0, 22, 42, 180, 0, 64, 43, 28, 182, 0, 241, 136]
abbrev dktX0_goes_1 : List UInt8 := dkwX0_goes_1 ++ dktX0_goes_2
def dkwX0_goes_0 : List UInt8 := [42, 180, 0, 64, 42, 180, 0, 60, 182, 0, 202, 87, 3, 61, 28, 43, 182, 0, 239, 162, 0, 37, 42]
abbrev dktX0_goes_0 : List UInt8 := dkwX0_goes_0 ++ dktX0_goes_1
theorem dksX0_goes_0 : cX0_goes.data.toList.drop 0 = dktX0_goes_0 := by decide +kernel
theorem dksX0_goes_1 : cX0_goes.data.toList.drop 23 = dktX0_goes_1 := dk_seg dksX0_goes_0 23 rfl rfl
theorem dksX0_goes_2 : cX0_goes.data.toList.drop 47 = dktX0_goes_2 := dk_seg dksX0_goes_1 24 rfl rfl
theorem dX0_goes_0 : decode cX0_goes 0 = .ok (.aload_n 0, 1) := dk_42 (dk_at dksX0_goes_0 0 rfl rfl)
theorem dX0_goes_1 : decode cX0_goes 1 = .ok (.getfield 64, 3) := dk_180 0 64 (dk_at dksX0_goes_0 1 rfl rfl)
theorem dX0_goes_4 : decode cX0_goes 4 = .ok (.aload_n 0, 1) := dk_42 (dk_at dksX0_goes_0 4 rfl rfl)
theorem dX0_goes_5 : decode cX0_goes 5 = .ok (.getfield 60, 3) := dk_180 0 60 (dk_at dksX0_goes_0 5 rfl rfl)
theorem dX0_goes_8 : decode cX0_goes 8 = .ok (.invokevirtual 202, 3) := dk_182 0 202 (dk_at dksX0_goes_0 8 rfl rfl)
theorem dX0_goes_11 : decode cX0_goes 11 = .ok (.pop, 1) := dk_87 (dk_at dksX0_goes_0 11 rfl rfl)
theorem dX0_goes_12 : decode cX0_goes 12 = .ok (.iconst 0, 1) := dk_3 (dk_at dksX0_goes_0 12 rfl rfl)
theorem dX0_goes_13 : decode cX0_goes 13 = .ok (.istore_n 2, 1) := dk_61 (dk_at dksX0_goes_0 13 rfl rfl)
theorem dX0_goes_14 : decode cX0_goes 14 = .ok (.iload_n 2, 1) := dk_28 (dk_at dksX0_goes_0 14 rfl rfl)
theorem dX0_goes_15 : decode cX0_goes 15 = .ok (.aload_n 1, 1) := dk_43 (dk_at dksX0_goes_0 15 rfl rfl)
theorem dX0_goes_16 : decode cX0_goes 16 = .ok (.invokevirtual 239, 3) := dk_182 0 239 (dk_at dksX0_goes_0 16 rfl rfl)
theorem dX0_goes_19 : decode cX0_goes 19 = .ok (.if_icmp .ge 37, 3) := dk_162 0 37 (dk_at dksX0_goes_0 19 rfl rfl)
theorem dX0_goes_22 : decode cX0_goes 22 = .ok (.aload_n 0, 1) := dk_42 (dk_at dksX0_goes_0 22 rfl rfl)
theorem dX0_goes_23 : decode cX0_goes 23 = .ok (.getfield 64, 3) := dk_180 0 64 (dk_at dksX0_goes_1 0 rfl rfl)
theorem dX0_goes_26 : decode cX0_goes 26 = .ok (.aload_n 1, 1) := dk_43 (dk_at dksX0_goes_1 3 rfl rfl)
theorem dX0_goes_27 : decode cX0_goes 27 = .ok (.iload_n 2, 1) := dk_28 (dk_at dksX0_goes_1 4 rfl rfl)
theorem dX0_goes_28 : decode cX0_goes 28 = .ok (.invokevirtual 241, 3) := dk_182 0 241 (dk_at dksX0_goes_1 5 rfl rfl)
theorem dX0_goes_31 : decode cX0_goes 31 = .ok (.invokevirtual 245, 3) := dk_182 0 245 (dk_at dksX0_goes_1 8 rfl rfl)
theorem dX0_goes_34 : decode cX0_goes 34 = .ok (.ifCond .ne 22, 3) := dk_154 0 22 (dk_at dksX0_goes_1 11 rfl rfl)
theorem dX0_goes_37 : decode cX0_goes 37 = .ok (.aload_n 0, 1) := dk_42 (dk_at dksX0_goes_1 14 rfl rfl)
theorem dX0_goes_38 : decode cX0_goes 38 = .ok (.getfield 64, 3) := dk_180 0 64 (dk_at dksX0_goes_1 15 rfl rfl)
theorem dX0_goes_41 : decode cX0_goes 41 = .ok (.aload_n 1, 1) := dk_43 (dk_at dksX0_goes_1 18 rfl rfl)
theorem dX0_goes_42 : decode cX0_goes 42 = .ok (.iload_n 2, 1) := dk_28 (dk_at dksX0_goes_1 19 rfl rfl)
theorem dX0_goes_43 : decode cX0_goes 43 = .ok (.invokevirtual 241, 3) := dk_182 0 241 (dk_at dksX0_goes_1 20 rfl rfl)
theorem dX0_goes_46 : decode cX0_goes 46 = .ok (.l2i, 1) := dk_136 (dk_at dksX0_goes_1 23 rfl rfl)
theorem dX0_goes_47 : decode cX0_goes 47 = .ok (.invokevirtual 249, 3) := dk_182 0 249 (dk_at dksX0_goes_2 0 rfl rfl)
theorem dX0_goes_50 : decode cX0_goes 50 = .ok (.iinc 2 1, 3) := dk_132 2 1 (dk_at dksX0_goes_2 3 rfl rfl)
theorem dX0_goes_53 : decode cX0_goes 53 = .ok (.goto (-39), 3) := dk_167 255 217 (dk_at dksX0_goes_2 6 rfl rfl)
theorem dX0_goes_56 : decode cX0_goes 56 = .ok (.iload_n 2, 1) := dk_28 (dk_at dksX0_goes_2 9 rfl rfl)
theorem dX0_goes_57 : decode cX0_goes 57 = .ok (.ireturn, 1) := dk_172 (dk_at dksX0_goes_2 10 rfl rfl)
def dkwX0_perform_1 : List UInt8 := [154, 0, 5, 3, 172, 42, 182, 0, 211, 42, 180, 0, 60, 42, 180, 0, 64, 182, 0, 202, 87, 29, 172]
abbrev dktX0_perform_1 : List UInt8 := dkwX0_perform_1 ++ []
def dkwX0_perform_0 : List UInt8 := [42, 27, 182, 0, 254, 61, 28, 153, 0, 5, 28, 172, 42, 42, 180, 0, 111, 27, 50, 182, 1, 1, 62, 29]
abbrev dktX0_perform_0 : List UInt8 := dkwX0_perform_0 ++ dktX0_perform_1
theorem dksX0_perform_0 : cX0_perform.data.toList.drop 0 = dktX0_perform_0 := by decide +kernel
theorem dksX0_perform_1 : cX0_perform.data.toList.drop 24 = dktX0_perform_1 := dk_seg dksX0_perform_0 24 rfl rfl
theorem dX0_perform_0 : decode cX0_perform 0 = .ok (.aload_n 0, 1) := dk_42 (dk_at dksX0_perform_0 0 rfl rfl)
theorem dX0_perform_1 : decode cX0_perform 1 = .ok (.iload_n 1, 1) := dk_27 (dk_at dksX0_perform_0 1 rfl rfl)
theorem dX0_perform_2 : decode cX0_perform 2 = .ok (.invokevirtual 254, 3) := dk_182 0 254 (dk_at dksX0_perform_0 2 rfl rfl)
theorem dX0_perform_5 : decode cX0_perform 5 = .ok (.istore_n 2, 1) := dk_61 (dk_at dksX0_perform_0 5 rfl rfl)
theorem dX0_perform_6 : decode cX0_perform 6 = .ok (.iload_n 2, 1) := dk_28 (dk_at dksX0_perform_0 6 rfl rfl)
theorem dX0_perform_7 : decode cX0_perform 7 = .ok (.ifCond .eq 5, 3) := dk_153 0 5 (dk_at dksX0_perform_0 7 rfl rfl)
theorem dX0_perform_10 : decode cX0_perform 10 = .ok (.iload_n 2, 1) := dk_28 (dk_at dksX0_perform_0 10 rfl rfl)
theorem dX0_perform_11 : decode cX0_perform 11 = .ok (.ireturn, 1) := dk_172 (dk_at dksX0_perform_0 11 rfl rfl)
theorem dX0_perform_12 : decode cX0_perform 12 = .ok (.aload_n 0, 1) := dk_42 (dk_at dksX0_perform_0 12 rfl rfl)
theorem dX0_perform_13 : decode cX0_perform 13 = .ok (.aload_n 0, 1) := dk_42 (dk_at dksX0_perform_0 13 rfl rfl)
theorem dX0_perform_14 : decode cX0_perform 14 = .ok (.getfield 111, 3) := dk_180 0 111 (dk_at dksX0_perform_0 14 rfl rfl)
theorem dX0_perform_17 : decode cX0_perform 17 = .ok (.iload_n 1, 1) := dk_27 (dk_at dksX0_perform_0 17 rfl rfl)
theorem dX0_perform_18 : decode cX0_perform 18 = .ok (.aaload, 1) := dk_50 (dk_at dksX0_perform_0 18 rfl rfl)
theorem dX0_perform_19 : decode cX0_perform 19 = .ok (.invokevirtual 257, 3) := dk_182 1 1 (dk_at dksX0_perform_0 19 rfl rfl)
theorem dX0_perform_22 : decode cX0_perform 22 = .ok (.istore_n 3, 1) := dk_62 (dk_at dksX0_perform_0 22 rfl rfl)
theorem dX0_perform_23 : decode cX0_perform 23 = .ok (.iload_n 3, 1) := dk_29 (dk_at dksX0_perform_0 23 rfl rfl)
theorem dX0_perform_24 : decode cX0_perform 24 = .ok (.ifCond .ne 5, 3) := dk_154 0 5 (dk_at dksX0_perform_1 0 rfl rfl)
theorem dX0_perform_27 : decode cX0_perform 27 = .ok (.iconst 0, 1) := dk_3 (dk_at dksX0_perform_1 3 rfl rfl)
theorem dX0_perform_28 : decode cX0_perform 28 = .ok (.ireturn, 1) := dk_172 (dk_at dksX0_perform_1 4 rfl rfl)
theorem dX0_perform_29 : decode cX0_perform 29 = .ok (.aload_n 0, 1) := dk_42 (dk_at dksX0_perform_1 5 rfl rfl)
theorem dX0_perform_30 : decode cX0_perform 30 = .ok (.invokevirtual 211, 3) := dk_182 0 211 (dk_at dksX0_perform_1 6 rfl rfl)
theorem dX0_perform_33 : decode cX0_perform 33 = .ok (.aload_n 0, 1) := dk_42 (dk_at dksX0_perform_1 9 rfl rfl)
theorem dX0_perform_34 : decode cX0_perform 34 = .ok (.getfield 60, 3) := dk_180 0 60 (dk_at dksX0_perform_1 10 rfl rfl)
theorem dX0_perform_37 : decode cX0_perform 37 = .ok (.aload_n 0, 1) := dk_42 (dk_at dksX0_perform_1 13 rfl rfl)
theorem dX0_perform_38 : decode cX0_perform 38 = .ok (.getfield 64, 3) := dk_180 0 64 (dk_at dksX0_perform_1 14 rfl rfl)
theorem dX0_perform_41 : decode cX0_perform 41 = .ok (.invokevirtual 202, 3) := dk_182 0 202 (dk_at dksX0_perform_1 17 rfl rfl)
theorem dX0_perform_44 : decode cX0_perform 44 = .ok (.pop, 1) := dk_87 (dk_at dksX0_perform_1 20 rfl rfl)
theorem dX0_perform_45 : decode cX0_perform 45 = .ok (.iload_n 3, 1) := dk_29 (dk_at dksX0_perform_1 21 rfl rfl)
theorem dX0_perform_46 : decode cX0_perform 46 = .ok (.ireturn, 1) := dk_172 (dk_at dksX0_perform_1 22 rfl rfl)
def dkwX0_year_4 : List UInt8 := [154, 0, 5, 3, 172, 42, 182, 0, 211, 42, 180, 0, 60, 42, 180, 0, 64, 182, 0, 202, 87, 29, 172]
abbrev dktX0_year_4 : List UInt8 := dkwX0_year_4 ++ []
def dkwX0_year_3 : List UInt8 := [167, 0, 15, 42, 180, 0, 64, 21, 5, 182, 0, 249, 132, 3, 1, 132, 4, 1, 167, 255, 206, 29]
abbrev dktX0_year_3 : List UInt8 := dkwX0_year_3 ++ dktX0_year_4
def dkwX0_year_2 : List UInt8 := [54, 5, 21, 5, 16, 247, 159, 0, 31, 42, 180, 0, 64, 21, 5, 133, 182, 0, 245, 153, 0, 6]
abbrev dktX0_year_2 : List UInt8 := dkwX0_year_2 ++ dktX0_year_3
def dkwX0_year_1 : List UInt8 := [182, 0, 202, 87, 42, 27, 181, 1, 8, 3, 62, 3, 54, 4, 21, 4, 28, 162, 0, 50, 42, 182, 1, 16]
abbrev dktX0_year_1 : List UInt8 := dkwX0_year_1 ++ dktX0_year_2
def dkwX0_year_0 : List UInt8 := [28, 133, 10, 20, 1, 14, 184, 0, 132, 154, 0, 6, 16, 253, 172, 42, 180, 0, 64, 42, 180, 0, 60]
abbrev dktX0_year_0 : List UInt8 := dkwX0_year_0 ++ dktX0_year_1
theorem dksX0_year_0 : cX0_year.data.toList.drop 0 = dktX0_year_0 := by decide +kernel
theorem dksX0_year_1 : cX0_year.data.toList.drop 23 = dktX0_year_1 := dk_seg dksX0_year_0 23 rfl rfl
theorem dksX0_year_2 : cX0_year.data.toList.drop 47 = dktX0_year_2 := dk_seg dksX0_year_1 24 rfl rfl
theorem dksX0_year_3 : cX0_year.data.toList.drop 69 = dktX0_year_3 := dk_seg dksX0_year_2 22 rfl rfl
theorem dksX0_year_4 : cX0_year.data.toList.drop 91 = dktX0_year_4 := dk_seg dksX0_year_3 22 rfl rfl
theorem dX0_year_0 : decode cX0_year 0 = .ok (.iload_n 2, 1) := dk_28 (dk_at dksX0_year_0 0 rfl rfl)
theorem dX0_year_1 : decode cX0_year 1 = .ok (.i2l, 1) := dk_133 (dk_at dksX0_year_0 1 rfl rfl)
theorem dX0_year_2 : decode cX0_year 2 = .ok (.lconst 1, 1) := dk_10 (dk_at dksX0_year_0 2 rfl rfl)
theorem dX0_year_3 : decode cX0_year 3 = .ok (.ldc2_w 270, 3) := dk_20 1 14 (dk_at dksX0_year_0 3 rfl rfl)
theorem dX0_year_6 : decode cX0_year 6 = .ok (.invokestatic 132, 3) := dk_184 0 132 (dk_at dksX0_year_0 6 rfl rfl)
theorem dX0_year_9 : decode cX0_year 9 = .ok (.ifCond .ne 6, 3) := dk_154 0 6 (dk_at dksX0_year_0 9 rfl rfl)
theorem dX0_year_12 : decode cX0_year 12 = .ok (.bipush (-3), 2) := dk_16 253 (dk_at dksX0_year_0 12 rfl rfl)
theorem dX0_year_14 : decode cX0_year 14 = .ok (.ireturn, 1) := dk_172 (dk_at dksX0_year_0 14 rfl rfl)
theorem dX0_year_15 : decode cX0_year 15 = .ok (.aload_n 0, 1) := dk_42 (dk_at dksX0_year_0 15 rfl rfl)
theorem dX0_year_16 : decode cX0_year 16 = .ok (.getfield 64, 3) := dk_180 0 64 (dk_at dksX0_year_0 16 rfl rfl)
theorem dX0_year_19 : decode cX0_year 19 = .ok (.aload_n 0, 1) := dk_42 (dk_at dksX0_year_0 19 rfl rfl)
theorem dX0_year_20 : decode cX0_year 20 = .ok (.getfield 60, 3) := dk_180 0 60 (dk_at dksX0_year_0 20 rfl rfl)
theorem dX0_year_23 : decode cX0_year 23 = .ok (.invokevirtual 202, 3) := dk_182 0 202 (dk_at dksX0_year_1 0 rfl rfl)
theorem dX0_year_26 : decode cX0_year 26 = .ok (.pop, 1) := dk_87 (dk_at dksX0_year_1 3 rfl rfl)
theorem dX0_year_27 : decode cX0_year 27 = .ok (.aload_n 0, 1) := dk_42 (dk_at dksX0_year_1 4 rfl rfl)
theorem dX0_year_28 : decode cX0_year 28 = .ok (.iload_n 1, 1) := dk_27 (dk_at dksX0_year_1 5 rfl rfl)
theorem dX0_year_29 : decode cX0_year 29 = .ok (.putfield 264, 3) := dk_181 1 8 (dk_at dksX0_year_1 6 rfl rfl)
theorem dX0_year_32 : decode cX0_year 32 = .ok (.iconst 0, 1) := dk_3 (dk_at dksX0_year_1 9 rfl rfl)
theorem dX0_year_33 : decode cX0_year 33 = .ok (.istore_n 3, 1) := dk_62 (dk_at dksX0_year_1 10 rfl rfl)
theorem dX0_year_34 : decode cX0_year 34 = .ok (.iconst 0, 1) := dk_3 (dk_at dksX0_year_1 11 rfl rfl)
theorem dX0_year_35 : decode cX0_year 35 = .ok (.istore 4, 2) := dk_54 4 (dk_at dksX0_year_1 12 rfl rfl)
theorem dX0_year_37 : decode cX0_year 37 = .ok (.iload 4, 2) := dk_21 4 (dk_at dksX0_year_1 14 rfl rfl)
theorem dX0_year_39 : decode cX0_year 39 = .ok (.iload_n 2, 1) := dk_28 (dk_at dksX0_year_1 16 rfl rfl)
theorem dX0_year_40 : decode cX0_year 40 = .ok (.if_icmp .ge 50, 3) := dk_162 0 50 (dk_at dksX0_year_1 17 rfl rfl)
theorem dX0_year_43 : decode cX0_year 43 = .ok (.aload_n 0, 1) := dk_42 (dk_at dksX0_year_1 20 rfl rfl)
theorem dX0_year_44 : decode cX0_year 44 = .ok (.invokevirtual 272, 3) := dk_182 1 16 (dk_at dksX0_year_1 21 rfl rfl)
theorem dX0_year_47 : decode cX0_year 47 = .ok (.istore 5, 2) := dk_54 5 (dk_at dksX0_year_2 0 rfl rfl)
theorem dX0_year_49 : decode cX0_year 49 = .ok (.iload 5, 2) := dk_21 5 (dk_at dksX0_year_2 2 rfl rfl)
theorem dX0_year_51 : decode cX0_year 51 = .ok (.bipush (-9), 2) := dk_16 247 (dk_at dksX0_year_2 4 rfl rfl)
theorem dX0_year_53 : decode cX0_year 53 = .ok (.if_icmp .eq 31, 3) := dk_159 0 31 (dk_at dksX0_year_2 6 rfl rfl)
theorem dX0_year_56 : decode cX0_year 56 = .ok (.aload_n 0, 1) := dk_42 (dk_at dksX0_year_2 9 rfl rfl)
theorem dX0_year_57 : decode cX0_year 57 = .ok (.getfield 64, 3) := dk_180 0 64 (dk_at dksX0_year_2 10 rfl rfl)
theorem dX0_year_60 : decode cX0_year 60 = .ok (.iload 5, 2) := dk_21 5 (dk_at dksX0_year_2 13 rfl rfl)
theorem dX0_year_62 : decode cX0_year 62 = .ok (.i2l, 1) := dk_133 (dk_at dksX0_year_2 15 rfl rfl)
theorem dX0_year_63 : decode cX0_year 63 = .ok (.invokevirtual 245, 3) := dk_182 0 245 (dk_at dksX0_year_2 16 rfl rfl)
theorem dX0_year_66 : decode cX0_year 66 = .ok (.ifCond .eq 6, 3) := dk_153 0 6 (dk_at dksX0_year_2 19 rfl rfl)
theorem dX0_year_69 : decode cX0_year 69 = .ok (.goto 15, 3) := dk_167 0 15 (dk_at dksX0_year_3 0 rfl rfl)
theorem dX0_year_72 : decode cX0_year 72 = .ok (.aload_n 0, 1) := dk_42 (dk_at dksX0_year_3 3 rfl rfl)
theorem dX0_year_73 : decode cX0_year 73 = .ok (.getfield 64, 3) := dk_180 0 64 (dk_at dksX0_year_3 4 rfl rfl)
theorem dX0_year_76 : decode cX0_year 76 = .ok (.iload 5, 2) := dk_21 5 (dk_at dksX0_year_3 7 rfl rfl)
theorem dX0_year_78 : decode cX0_year 78 = .ok (.invokevirtual 249, 3) := dk_182 0 249 (dk_at dksX0_year_3 9 rfl rfl)
theorem dX0_year_81 : decode cX0_year 81 = .ok (.iinc 3 1, 3) := dk_132 3 1 (dk_at dksX0_year_3 12 rfl rfl)
theorem dX0_year_84 : decode cX0_year 84 = .ok (.iinc 4 1, 3) := dk_132 4 1 (dk_at dksX0_year_3 15 rfl rfl)
theorem dX0_year_87 : decode cX0_year 87 = .ok (.goto (-50), 3) := dk_167 255 206 (dk_at dksX0_year_3 18 rfl rfl)
theorem dX0_year_90 : decode cX0_year 90 = .ok (.iload_n 3, 1) := dk_29 (dk_at dksX0_year_3 21 rfl rfl)
theorem dX0_year_91 : decode cX0_year 91 = .ok (.ifCond .ne 5, 3) := dk_154 0 5 (dk_at dksX0_year_4 0 rfl rfl)
theorem dX0_year_94 : decode cX0_year 94 = .ok (.iconst 0, 1) := dk_3 (dk_at dksX0_year_4 3 rfl rfl)
theorem dX0_year_95 : decode cX0_year 95 = .ok (.ireturn, 1) := dk_172 (dk_at dksX0_year_4 4 rfl rfl)
theorem dX0_year_96 : decode cX0_year 96 = .ok (.aload_n 0, 1) := dk_42 (dk_at dksX0_year_4 5 rfl rfl)
theorem dX0_year_97 : decode cX0_year 97 = .ok (.invokevirtual 211, 3) := dk_182 0 211 (dk_at dksX0_year_4 6 rfl rfl)
theorem dX0_year_100 : decode cX0_year 100 = .ok (.aload_n 0, 1) := dk_42 (dk_at dksX0_year_4 9 rfl rfl)
theorem dX0_year_101 : decode cX0_year 101 = .ok (.getfield 60, 3) := dk_180 0 60 (dk_at dksX0_year_4 10 rfl rfl)
theorem dX0_year_104 : decode cX0_year 104 = .ok (.aload_n 0, 1) := dk_42 (dk_at dksX0_year_4 13 rfl rfl)
theorem dX0_year_105 : decode cX0_year 105 = .ok (.getfield 64, 3) := dk_180 0 64 (dk_at dksX0_year_4 14 rfl rfl)
theorem dX0_year_108 : decode cX0_year 108 = .ok (.invokevirtual 202, 3) := dk_182 0 202 (dk_at dksX0_year_4 17 rfl rfl)
theorem dX0_year_111 : decode cX0_year 111 = .ok (.pop, 1) := dk_87 (dk_at dksX0_year_4 20 rfl rfl)
theorem dX0_year_112 : decode cX0_year 112 = .ok (.iload_n 3, 1) := dk_29 (dk_at dksX0_year_4 21 rfl rfl)
theorem dX0_year_113 : decode cX0_year 113 = .ok (.ireturn, 1) := dk_172 (dk_at dksX0_year_4 22 rfl rfl)
def dkwX0_told_2 : List UInt8 := [180, 0, 160, 182, 1, 11, 61, 16, 10, 28, 104, 42, 16, 7, 182, 1, 11, 96, 172]
abbrev dktX0_told_2 : List UInt8 := dkwX0_told_2 ++ []
def dkwX0_told_1 : List UInt8 := [182, 1, 11, 96, 172, 42, 180, 0, 17, 180, 0, 160, 154, 0, 6, 16, 247, 172, 42, 42, 180, 0, 17]
abbrev dktX0_told_1 : List UInt8 := dkwX0_told_1 ++ dktX0_told_2
def dkwX0_told_0 : List UInt8 := [42, 7, 182, 1, 11, 60, 27, 154, 0, 5, 2, 172, 27, 6, 160, 0, 13, 17, 0, 200, 42, 6]
abbrev dktX0_told_0 : List UInt8 := dkwX0_told_0 ++ dktX0_told_1
theorem dksX0_told_0 : cX0_told.data.toList.drop 0 = dktX0_told_0 := by decide +kernel
theorem dksX0_told_1 : cX0_told.data.toList.drop 22 = dktX0_told_1 := dk_seg dksX0_told_0 22 rfl rfl
theorem dksX0_told_2 : cX0_told.data.toList.drop 45 = dktX0_told_2 := dk_seg dksX0_told_1 23 rfl rfl
theorem dX0_told_0 : decode cX0_told 0 = .ok (.aload_n 0, 1) := dk_42 (dk_at dksX0_told_0 0 rfl rfl)
theorem dX0_told_1 : decode cX0_told 1 = .ok (.iconst 4, 1) := dk_7 (dk_at dksX0_told_0 1 rfl rfl)
theorem dX0_told_2 : decode cX0_told 2 = .ok (.invokevirtual 267, 3) := dk_182 1 11 (dk_at dksX0_told_0 2 rfl rfl)
theorem dX0_told_5 : decode cX0_told 5 = .ok (.istore_n 1, 1) := dk_60 (dk_at dksX0_told_0 5 rfl rfl)
theorem dX0_told_6 : decode cX0_told 6 = .ok (.iload_n 1, 1) := dk_27 (dk_at dksX0_told_0 6 rfl rfl)
theorem dX0_told_7 : decode cX0_told 7 = .ok (.ifCond .ne 5, 3) := dk_154 0 5 (dk_at dksX0_told_0 7 rfl rfl)
theorem dX0_told_10 : decode cX0_told 10 = .ok (.iconst (-1), 1) := dk_2 (dk_at dksX0_told_0 10 rfl rfl)
theorem dX0_told_11 : decode cX0_told 11 = .ok (.ireturn, 1) := dk_172 (dk_at dksX0_told_0 11 rfl rfl)
theorem dX0_told_12 : decode cX0_told 12 = .ok (.iload_n 1, 1) := dk_27 (dk_at dksX0_told_0 12 rfl rfl)
theorem dX0_told_13 : decode cX0_told 13 = .ok (.iconst 3, 1) := dk_6 (dk_at dksX0_told_0 13 rfl rfl)
theorem dX0_told_14 : decode cX0_told 14 = .ok (.if_icmp .ne 13, 3) := dk_160 0 13 (dk_at dksX0_told_0 14 rfl rfl)
theorem dX0_told_17 : decode cX0_told 17 = .ok (.sipush 200, 3) := dk_17 0 200 (dk_at dksX0_told_0 17 rfl rfl)
theorem dX0_told_20 : decode cX0_told 20 = .ok (.aload_n 0, 1) := dk_42 (dk_at dksX0_told_0 20 rfl rfl)
theorem dX0_told_21 : decode cX0_told 21 = .ok (.iconst 3, 1) := dk_6 (dk_at dksX0_told_0 21 rfl rfl)
theorem dX0_told_22 : decode cX0_told 22 = .ok (.invokevirtual 267, 3) := dk_182 1 11 (dk_at dksX0_told_1 0 rfl rfl)
theorem dX0_told_25 : decode cX0_told 25 = .ok (.iadd, 1) := dk_96 (dk_at dksX0_told_1 3 rfl rfl)
theorem dX0_told_26 : decode cX0_told 26 = .ok (.ireturn, 1) := dk_172 (dk_at dksX0_told_1 4 rfl rfl)
theorem dX0_told_27 : decode cX0_told 27 = .ok (.aload_n 0, 1) := dk_42 (dk_at dksX0_told_1 5 rfl rfl)
theorem dX0_told_28 : decode cX0_told 28 = .ok (.getfield 17, 3) := dk_180 0 17 (dk_at dksX0_told_1 6 rfl rfl)
theorem dX0_told_31 : decode cX0_told 31 = .ok (.getfield 160, 3) := dk_180 0 160 (dk_at dksX0_told_1 9 rfl rfl)
theorem dX0_told_34 : decode cX0_told 34 = .ok (.ifCond .ne 6, 3) := dk_154 0 6 (dk_at dksX0_told_1 12 rfl rfl)
theorem dX0_told_37 : decode cX0_told 37 = .ok (.bipush (-9), 2) := dk_16 247 (dk_at dksX0_told_1 15 rfl rfl)
theorem dX0_told_39 : decode cX0_told 39 = .ok (.ireturn, 1) := dk_172 (dk_at dksX0_told_1 17 rfl rfl)
theorem dX0_told_40 : decode cX0_told 40 = .ok (.aload_n 0, 1) := dk_42 (dk_at dksX0_told_1 18 rfl rfl)
theorem dX0_told_41 : decode cX0_told 41 = .ok (.aload_n 0, 1) := dk_42 (dk_at dksX0_told_1 19 rfl rfl)
theorem dX0_told_42 : decode cX0_told 42 = .ok (.getfield 17, 3) := dk_180 0 17 (dk_at dksX0_told_1 20 rfl rfl)
theorem dX0_told_45 : decode cX0_told 45 = .ok (.getfield 160, 3) := dk_180 0 160 (dk_at dksX0_told_2 0 rfl rfl)
theorem dX0_told_48 : decode cX0_told 48 = .ok (.invokevirtual 267, 3) := dk_182 1 11 (dk_at dksX0_told_2 3 rfl rfl)
theorem dX0_told_51 : decode cX0_told 51 = .ok (.istore_n 2, 1) := dk_61 (dk_at dksX0_told_2 6 rfl rfl)
theorem dX0_told_52 : decode cX0_told 52 = .ok (.bipush 10, 2) := dk_16 10 (dk_at dksX0_told_2 7 rfl rfl)
theorem dX0_told_54 : decode cX0_told 54 = .ok (.iload_n 2, 1) := dk_28 (dk_at dksX0_told_2 9 rfl rfl)
theorem dX0_told_55 : decode cX0_told 55 = .ok (.imul, 1) := dk_104 (dk_at dksX0_told_2 10 rfl rfl)
theorem dX0_told_56 : decode cX0_told 56 = .ok (.aload_n 0, 1) := dk_42 (dk_at dksX0_told_2 11 rfl rfl)
theorem dX0_told_57 : decode cX0_told 57 = .ok (.bipush 7, 2) := dk_16 7 (dk_at dksX0_told_2 12 rfl rfl)
theorem dX0_told_59 : decode cX0_told 59 = .ok (.invokevirtual 267, 3) := dk_182 1 11 (dk_at dksX0_told_2 14 rfl rfl)
theorem dX0_told_62 : decode cX0_told 62 = .ok (.iadd, 1) := dk_96 (dk_at dksX0_told_2 17 rfl rfl)
theorem dX0_told_63 : decode cX0_told 63 = .ok (.ireturn, 1) := dk_172 (dk_at dksX0_told_2 18 rfl rfl)
def dkwX0_draw_1 : List UInt8 := [112, 172]
abbrev dktX0_draw_1 : List UInt8 := dkwX0_draw_1 ++ []
def dkwX0_draw_0 : List UInt8 := [42, 19, 1, 7, 42, 180, 1, 8, 104, 17, 48, 57, 96, 181, 1, 8, 42, 180, 1, 8, 16, 16, 124, 27]
abbrev dktX0_draw_0 : List UInt8 := dkwX0_draw_0 ++ dktX0_draw_1
theorem dksX0_draw_0 : cX0_draw.data.toList.drop 0 = dktX0_draw_0 := by decide +kernel
theorem dksX0_draw_1 : cX0_draw.data.toList.drop 24 = dktX0_draw_1 := dk_seg dksX0_draw_0 24 rfl rfl
theorem dX0_draw_0 : decode cX0_draw 0 = .ok (.aload_n 0, 1) := dk_42 (dk_at dksX0_draw_0 0 rfl rfl)
theorem dX0_draw_1 : decode cX0_draw 1 = .ok (.ldc_w 263, 3) := dk_19 1 7 (dk_at dksX0_draw_0 1 rfl rfl)
theorem dX0_draw_4 : decode cX0_draw 4 = .ok (.aload_n 0, 1) := dk_42 (dk_at dksX0_draw_0 4 rfl rfl)
theorem dX0_draw_5 : decode cX0_draw 5 = .ok (.getfield 264, 3) := dk_180 1 8 (dk_at dksX0_draw_0 5 rfl rfl)
theorem dX0_draw_8 : decode cX0_draw 8 = .ok (.imul, 1) := dk_104 (dk_at dksX0_draw_0 8 rfl rfl)
theorem dX0_draw_9 : decode cX0_draw 9 = .ok (.sipush 12345, 3) := dk_17 48 57 (dk_at dksX0_draw_0 9 rfl rfl)
theorem dX0_draw_12 : decode cX0_draw 12 = .ok (.iadd, 1) := dk_96 (dk_at dksX0_draw_0 12 rfl rfl)
theorem dX0_draw_13 : decode cX0_draw 13 = .ok (.putfield 264, 3) := dk_181 1 8 (dk_at dksX0_draw_0 13 rfl rfl)
theorem dX0_draw_16 : decode cX0_draw 16 = .ok (.aload_n 0, 1) := dk_42 (dk_at dksX0_draw_0 16 rfl rfl)
theorem dX0_draw_17 : decode cX0_draw 17 = .ok (.getfield 264, 3) := dk_180 1 8 (dk_at dksX0_draw_0 17 rfl rfl)
theorem dX0_draw_20 : decode cX0_draw 20 = .ok (.bipush 16, 2) := dk_16 16 (dk_at dksX0_draw_0 20 rfl rfl)
theorem dX0_draw_22 : decode cX0_draw 22 = .ok (.iushr, 1) := dk_124 (dk_at dksX0_draw_0 22 rfl rfl)
theorem dX0_draw_23 : decode cX0_draw 23 = .ok (.iload_n 1, 1) := dk_27 (dk_at dksX0_draw_0 23 rfl rfl)
theorem dX0_draw_24 : decode cX0_draw 24 = .ok (.irem, 1) := dk_112 (dk_at dksX0_draw_1 0 rfl rfl)
theorem dX0_draw_25 : decode cX0_draw 25 = .ok (.ireturn, 1) := dk_172 (dk_at dksX0_draw_1 1 rfl rfl)
def dkwX0_soonest_1 : List UInt8 := [182, 1, 53, 172]
abbrev dktX0_soonest_1 : List UInt8 := dkwX0_soonest_1 ++ []
def dkwX0_soonest_0 : List UInt8 := [42, 27, 28, 182, 1, 47, 154, 0, 6, 16, 254, 172, 42, 182, 1, 50, 42, 27, 28, 3, 16, 60]
abbrev dktX0_soonest_0 : List UInt8 := dkwX0_soonest_0 ++ dktX0_soonest_1
theorem dksX0_soonest_0 : cX0_soonest.data.toList.drop 0 = dktX0_soonest_0 := by decide +kernel
theorem dksX0_soonest_1 : cX0_soonest.data.toList.drop 22 = dktX0_soonest_1 := dk_seg dksX0_soonest_0 22 rfl rfl
theorem dX0_soonest_0 : decode cX0_soonest 0 = .ok (.aload_n 0, 1) := dk_42 (dk_at dksX0_soonest_0 0 rfl rfl)
theorem dX0_soonest_1 : decode cX0_soonest 1 = .ok (.iload_n 1, 1) := dk_27 (dk_at dksX0_soonest_0 1 rfl rfl)
theorem dX0_soonest_2 : decode cX0_soonest 2 = .ok (.iload_n 2, 1) := dk_28 (dk_at dksX0_soonest_0 2 rfl rfl)
theorem dX0_soonest_3 : decode cX0_soonest 3 = .ok (.invokevirtual 303, 3) := dk_182 1 47 (dk_at dksX0_soonest_0 3 rfl rfl)
theorem dX0_soonest_6 : decode cX0_soonest 6 = .ok (.ifCond .ne 6, 3) := dk_154 0 6 (dk_at dksX0_soonest_0 6 rfl rfl)
theorem dX0_soonest_9 : decode cX0_soonest 9 = .ok (.bipush (-2), 2) := dk_16 254 (dk_at dksX0_soonest_0 9 rfl rfl)
theorem dX0_soonest_11 : decode cX0_soonest 11 = .ok (.ireturn, 1) := dk_172 (dk_at dksX0_soonest_0 11 rfl rfl)
theorem dX0_soonest_12 : decode cX0_soonest 12 = .ok (.aload_n 0, 1) := dk_42 (dk_at dksX0_soonest_0 12 rfl rfl)
theorem dX0_soonest_13 : decode cX0_soonest 13 = .ok (.invokevirtual 306, 3) := dk_182 1 50 (dk_at dksX0_soonest_0 13 rfl rfl)
theorem dX0_soonest_16 : decode cX0_soonest 16 = .ok (.aload_n 0, 1) := dk_42 (dk_at dksX0_soonest_0 16 rfl rfl)
theorem dX0_soonest_17 : decode cX0_soonest 17 = .ok (.iload_n 1, 1) := dk_27 (dk_at dksX0_soonest_0 17 rfl rfl)
theorem dX0_soonest_18 : decode cX0_soonest 18 = .ok (.iload_n 2, 1) := dk_28 (dk_at dksX0_soonest_0 18 rfl rfl)
theorem dX0_soonest_19 : decode cX0_soonest 19 = .ok (.iconst 0, 1) := dk_3 (dk_at dksX0_soonest_0 19 rfl rfl)
theorem dX0_soonest_20 : decode cX0_soonest 20 = .ok (.bipush 60, 2) := dk_16 60 (dk_at dksX0_soonest_0 20 rfl rfl)
theorem dX0_soonest_22 : decode cX0_soonest 22 = .ok (.invokevirtual 309, 3) := dk_182 1 53 (dk_at dksX0_soonest_1 0 rfl rfl)
theorem dX0_soonest_25 : decode cX0_soonest 25 = .ok (.ireturn, 1) := dk_172 (dk_at dksX0_soonest_1 3 rfl rfl)
def dkwX0_isAsked_1 : List UInt8 := [3, 172]
abbrev dktX0_isAsked_1 : List UInt8 := dkwX0_isAsked_1 ++ []
def dkwX0_isAsked_0 : List UInt8 := [42, 27, 182, 0, 169, 153, 0, 19, 42, 180, 0, 17, 28, 133, 182, 1, 37, 153, 0, 7, 4, 167, 0, 4]
abbrev dktX0_isAsked_0 : List UInt8 := dkwX0_isAsked_0 ++ dktX0_isAsked_1
theorem dksX0_isAsked_0 : cX0_isAsked.data.toList.drop 0 = dktX0_isAsked_0 := by decide +kernel
theorem dksX0_isAsked_1 : cX0_isAsked.data.toList.drop 24 = dktX0_isAsked_1 := dk_seg dksX0_isAsked_0 24 rfl rfl
theorem dX0_isAsked_0 : decode cX0_isAsked 0 = .ok (.aload_n 0, 1) := dk_42 (dk_at dksX0_isAsked_0 0 rfl rfl)
theorem dX0_isAsked_1 : decode cX0_isAsked 1 = .ok (.iload_n 1, 1) := dk_27 (dk_at dksX0_isAsked_0 1 rfl rfl)
theorem dX0_isAsked_2 : decode cX0_isAsked 2 = .ok (.invokevirtual 169, 3) := dk_182 0 169 (dk_at dksX0_isAsked_0 2 rfl rfl)
theorem dX0_isAsked_5 : decode cX0_isAsked 5 = .ok (.ifCond .eq 19, 3) := dk_153 0 19 (dk_at dksX0_isAsked_0 5 rfl rfl)
theorem dX0_isAsked_8 : decode cX0_isAsked 8 = .ok (.aload_n 0, 1) := dk_42 (dk_at dksX0_isAsked_0 8 rfl rfl)
theorem dX0_isAsked_9 : decode cX0_isAsked 9 = .ok (.getfield 17, 3) := dk_180 0 17 (dk_at dksX0_isAsked_0 9 rfl rfl)
theorem dX0_isAsked_12 : decode cX0_isAsked 12 = .ok (.iload_n 2, 1) := dk_28 (dk_at dksX0_isAsked_0 12 rfl rfl)
theorem dX0_isAsked_13 : decode cX0_isAsked 13 = .ok (.i2l, 1) := dk_133 (dk_at dksX0_isAsked_0 13 rfl rfl)
theorem dX0_isAsked_14 : decode cX0_isAsked 14 = .ok (.invokevirtual 293, 3) := dk_182 1 37 (dk_at dksX0_isAsked_0 14 rfl rfl)
theorem dX0_isAsked_17 : decode cX0_isAsked 17 = .ok (.ifCond .eq 7, 3) := dk_153 0 7 (dk_at dksX0_isAsked_0 17 rfl rfl)
theorem dX0_isAsked_20 : decode cX0_isAsked 20 = .ok (.iconst 1, 1) := dk_4 (dk_at dksX0_isAsked_0 20 rfl rfl)
theorem dX0_isAsked_21 : decode cX0_isAsked 21 = .ok (.goto 4, 3) := dk_167 0 4 (dk_at dksX0_isAsked_0 21 rfl rfl)
theorem dX0_isAsked_24 : decode cX0_isAsked 24 = .ok (.iconst 0, 1) := dk_3 (dk_at dksX0_isAsked_1 0 rfl rfl)
theorem dX0_isAsked_25 : decode cX0_isAsked 25 = .ok (.ireturn, 1) := dk_172 (dk_at dksX0_isAsked_1 1 rfl rfl)
def dkwX0_laysOwn_0 : List UInt8 := [42, 182, 1, 41, 42, 182, 1, 44, 177]
abbrev dktX0_laysOwn_0 : List UInt8 := dkwX0_laysOwn_0 ++ []
theorem dksX0_laysOwn_0 : cX0_laysOwn.data.toList.drop 0 = dktX0_laysOwn_0 := by decide +kernel
theorem dX0_laysOwn_0 : decode cX0_laysOwn 0 = .ok (.aload_n 0, 1) := dk_42 (dk_at dksX0_laysOwn_0 0 rfl rfl)
theorem dX0_laysOwn_1 : decode cX0_laysOwn 1 = .ok (.invokevirtual 297, 3) := dk_182 1 41 (dk_at dksX0_laysOwn_0 1 rfl rfl)
theorem dX0_laysOwn_4 : decode cX0_laysOwn 4 = .ok (.aload_n 0, 1) := dk_42 (dk_at dksX0_laysOwn_0 4 rfl rfl)
theorem dX0_laysOwn_5 : decode cX0_laysOwn 5 = .ok (.invokevirtual 300, 3) := dk_182 1 44 (dk_at dksX0_laysOwn_0 5 rfl rfl)
theorem dX0_laysOwn_8 : decode cX0_laysOwn 8 = .ok (.return_, 1) := dk_177 (dk_at dksX0_laysOwn_0 8 rfl rfl)
def dkwX0_laysTables_9 : List UInt8 := [167, 255, 53, 132, 1, 1, 167, 255, 40, 177]
abbrev dktX0_laysTables_9 : List UInt8 := dkwX0_laysTables_9 ++ []
def dkwX0_laysTables_8 : List UInt8 := [21, 5, 120, 167, 0, 4, 3, 128, 79, 132, 5, 1, 167, 255, 134, 132, 3, 1, 167, 255, 72, 132, 2, 1]
abbrev dktX0_laysTables_8 : List UInt8 := dkwX0_laysTables_8 ++ dktX0_laysTables_9
def dkwX0_laysTables_7 : List UInt8 := [21, 4, 104, 4, 96, 92, 46, 42, 180, 0, 17, 29, 4, 28, 21, 5, 27, 182, 0, 27, 153, 0, 10, 4]
abbrev dktX0_laysTables_7 : List UInt8 := dkwX0_laysTables_7 ++ dktX0_laysTables_8
def dkwX0_laysTables_6 : List UInt8 := [21, 5, 27, 182, 0, 27, 153, 0, 10, 4, 21, 5, 120, 167, 0, 4, 3, 128, 79, 42, 180, 0, 83, 5]
abbrev dktX0_laysTables_6 : List UInt8 := dkwX0_laysTables_6 ++ dktX0_laysTables_7
def dkwX0_laysTables_5 : List UInt8 := [167, 0, 4, 3, 128, 79, 42, 180, 0, 83, 5, 21, 4, 104, 92, 46, 42, 180, 0, 17, 29, 3, 28]
abbrev dktX0_laysTables_5 : List UInt8 := dkwX0_laysTables_5 ++ dktX0_laysTables_6
def dkwX0_laysTables_4 : List UInt8 := [21, 4, 92, 46, 42, 180, 0, 17, 29, 28, 21, 5, 27, 182, 0, 21, 153, 0, 10, 4, 21, 5, 120]
abbrev dktX0_laysTables_4 : List UInt8 := dkwX0_laysTables_4 ++ dktX0_laysTables_5
def dkwX0_laysTables_3 : List UInt8 := [104, 4, 96, 3, 79, 3, 54, 5, 21, 5, 42, 180, 0, 17, 180, 0, 160, 162, 0, 116, 42, 180, 0, 79]
abbrev dktX0_laysTables_3 : List UInt8 := dkwX0_laysTables_3 ++ dktX0_laysTables_4
def dkwX0_laysTables_2 : List UInt8 := [180, 0, 79, 21, 4, 3, 79, 42, 180, 0, 83, 5, 21, 4, 104, 3, 79, 42, 180, 0, 83, 5, 21, 4]
abbrev dktX0_laysTables_2 : List UInt8 := dkwX0_laysTables_2 ++ dktX0_laysTables_3
def dkwX0_laysTables_1 : List UInt8 := [180, 0, 17, 180, 0, 222, 162, 0, 179, 7, 16, 6, 27, 104, 28, 96, 104, 29, 96, 54, 4, 42]
abbrev dktX0_laysTables_1 : List UInt8 := dkwX0_laysTables_1 ++ dktX0_laysTables_2
def dkwX0_laysTables_0 : List UInt8 := [3, 60, 27, 5, 162, 0, 217, 3, 61, 28, 42, 180, 0, 17, 180, 0, 217, 162, 0, 198, 3, 62, 29, 42]
abbrev dktX0_laysTables_0 : List UInt8 := dkwX0_laysTables_0 ++ dktX0_laysTables_1
theorem dksX0_laysTables_0 : cX0_laysTables.data.toList.drop 0 = dktX0_laysTables_0 := by decide +kernel
theorem dksX0_laysTables_1 : cX0_laysTables.data.toList.drop 24 = dktX0_laysTables_1 := dk_seg dksX0_laysTables_0 24 rfl rfl
theorem dksX0_laysTables_2 : cX0_laysTables.data.toList.drop 46 = dktX0_laysTables_2 := dk_seg dksX0_laysTables_1 22 rfl rfl
theorem dksX0_laysTables_3 : cX0_laysTables.data.toList.drop 70 = dktX0_laysTables_3 := dk_seg dksX0_laysTables_2 24 rfl rfl
theorem dksX0_laysTables_4 : cX0_laysTables.data.toList.drop 94 = dktX0_laysTables_4 := dk_seg dksX0_laysTables_3 24 rfl rfl
theorem dksX0_laysTables_5 : cX0_laysTables.data.toList.drop 117 = dktX0_laysTables_5 := dk_seg dksX0_laysTables_4 23 rfl rfl
theorem dksX0_laysTables_6 : cX0_laysTables.data.toList.drop 140 = dktX0_laysTables_6 := dk_seg dksX0_laysTables_5 23 rfl rfl
theorem dksX0_laysTables_7 : cX0_laysTables.data.toList.drop 164 = dktX0_laysTables_7 := dk_seg dksX0_laysTables_6 24 rfl rfl
theorem dksX0_laysTables_8 : cX0_laysTables.data.toList.drop 188 = dktX0_laysTables_8 := dk_seg dksX0_laysTables_7 24 rfl rfl
theorem dksX0_laysTables_9 : cX0_laysTables.data.toList.drop 212 = dktX0_laysTables_9 := dk_seg dksX0_laysTables_8 24 rfl rfl
theorem dX0_laysTables_0 : decode cX0_laysTables 0 = .ok (.iconst 0, 1) := dk_3 (dk_at dksX0_laysTables_0 0 rfl rfl)
theorem dX0_laysTables_1 : decode cX0_laysTables 1 = .ok (.istore_n 1, 1) := dk_60 (dk_at dksX0_laysTables_0 1 rfl rfl)
theorem dX0_laysTables_2 : decode cX0_laysTables 2 = .ok (.iload_n 1, 1) := dk_27 (dk_at dksX0_laysTables_0 2 rfl rfl)
theorem dX0_laysTables_3 : decode cX0_laysTables 3 = .ok (.iconst 2, 1) := dk_5 (dk_at dksX0_laysTables_0 3 rfl rfl)
theorem dX0_laysTables_4 : decode cX0_laysTables 4 = .ok (.if_icmp .ge 217, 3) := dk_162 0 217 (dk_at dksX0_laysTables_0 4 rfl rfl)
theorem dX0_laysTables_7 : decode cX0_laysTables 7 = .ok (.iconst 0, 1) := dk_3 (dk_at dksX0_laysTables_0 7 rfl rfl)
theorem dX0_laysTables_8 : decode cX0_laysTables 8 = .ok (.istore_n 2, 1) := dk_61 (dk_at dksX0_laysTables_0 8 rfl rfl)
theorem dX0_laysTables_9 : decode cX0_laysTables 9 = .ok (.iload_n 2, 1) := dk_28 (dk_at dksX0_laysTables_0 9 rfl rfl)
theorem dX0_laysTables_10 : decode cX0_laysTables 10 = .ok (.aload_n 0, 1) := dk_42 (dk_at dksX0_laysTables_0 10 rfl rfl)
theorem dX0_laysTables_11 : decode cX0_laysTables 11 = .ok (.getfield 17, 3) := dk_180 0 17 (dk_at dksX0_laysTables_0 11 rfl rfl)
theorem dX0_laysTables_14 : decode cX0_laysTables 14 = .ok (.getfield 217, 3) := dk_180 0 217 (dk_at dksX0_laysTables_0 14 rfl rfl)
theorem dX0_laysTables_17 : decode cX0_laysTables 17 = .ok (.if_icmp .ge 198, 3) := dk_162 0 198 (dk_at dksX0_laysTables_0 17 rfl rfl)
theorem dX0_laysTables_20 : decode cX0_laysTables 20 = .ok (.iconst 0, 1) := dk_3 (dk_at dksX0_laysTables_0 20 rfl rfl)
theorem dX0_laysTables_21 : decode cX0_laysTables 21 = .ok (.istore_n 3, 1) := dk_62 (dk_at dksX0_laysTables_0 21 rfl rfl)
theorem dX0_laysTables_22 : decode cX0_laysTables 22 = .ok (.iload_n 3, 1) := dk_29 (dk_at dksX0_laysTables_0 22 rfl rfl)
theorem dX0_laysTables_23 : decode cX0_laysTables 23 = .ok (.aload_n 0, 1) := dk_42 (dk_at dksX0_laysTables_0 23 rfl rfl)
theorem dX0_laysTables_24 : decode cX0_laysTables 24 = .ok (.getfield 17, 3) := dk_180 0 17 (dk_at dksX0_laysTables_1 0 rfl rfl)
theorem dX0_laysTables_27 : decode cX0_laysTables 27 = .ok (.getfield 222, 3) := dk_180 0 222 (dk_at dksX0_laysTables_1 3 rfl rfl)
theorem dX0_laysTables_30 : decode cX0_laysTables 30 = .ok (.if_icmp .ge 179, 3) := dk_162 0 179 (dk_at dksX0_laysTables_1 6 rfl rfl)
theorem dX0_laysTables_33 : decode cX0_laysTables 33 = .ok (.iconst 4, 1) := dk_7 (dk_at dksX0_laysTables_1 9 rfl rfl)
theorem dX0_laysTables_34 : decode cX0_laysTables 34 = .ok (.bipush 6, 2) := dk_16 6 (dk_at dksX0_laysTables_1 10 rfl rfl)
theorem dX0_laysTables_36 : decode cX0_laysTables 36 = .ok (.iload_n 1, 1) := dk_27 (dk_at dksX0_laysTables_1 12 rfl rfl)
theorem dX0_laysTables_37 : decode cX0_laysTables 37 = .ok (.imul, 1) := dk_104 (dk_at dksX0_laysTables_1 13 rfl rfl)
theorem dX0_laysTables_38 : decode cX0_laysTables 38 = .ok (.iload_n 2, 1) := dk_28 (dk_at dksX0_laysTables_1 14 rfl rfl)
theorem dX0_laysTables_39 : decode cX0_laysTables 39 = .ok (.iadd, 1) := dk_96 (dk_at dksX0_laysTables_1 15 rfl rfl)
theorem dX0_laysTables_40 : decode cX0_laysTables 40 = .ok (.imul, 1) := dk_104 (dk_at dksX0_laysTables_1 16 rfl rfl)
theorem dX0_laysTables_41 : decode cX0_laysTables 41 = .ok (.iload_n 3, 1) := dk_29 (dk_at dksX0_laysTables_1 17 rfl rfl)
theorem dX0_laysTables_42 : decode cX0_laysTables 42 = .ok (.iadd, 1) := dk_96 (dk_at dksX0_laysTables_1 18 rfl rfl)
theorem dX0_laysTables_43 : decode cX0_laysTables 43 = .ok (.istore 4, 2) := dk_54 4 (dk_at dksX0_laysTables_1 19 rfl rfl)
theorem dX0_laysTables_45 : decode cX0_laysTables 45 = .ok (.aload_n 0, 1) := dk_42 (dk_at dksX0_laysTables_1 21 rfl rfl)
theorem dX0_laysTables_46 : decode cX0_laysTables 46 = .ok (.getfield 79, 3) := dk_180 0 79 (dk_at dksX0_laysTables_2 0 rfl rfl)
theorem dX0_laysTables_49 : decode cX0_laysTables 49 = .ok (.iload 4, 2) := dk_21 4 (dk_at dksX0_laysTables_2 3 rfl rfl)
theorem dX0_laysTables_51 : decode cX0_laysTables 51 = .ok (.iconst 0, 1) := dk_3 (dk_at dksX0_laysTables_2 5 rfl rfl)
theorem dX0_laysTables_52 : decode cX0_laysTables 52 = .ok (.iastore, 1) := dk_79 (dk_at dksX0_laysTables_2 6 rfl rfl)
theorem dX0_laysTables_53 : decode cX0_laysTables 53 = .ok (.aload_n 0, 1) := dk_42 (dk_at dksX0_laysTables_2 7 rfl rfl)
theorem dX0_laysTables_54 : decode cX0_laysTables 54 = .ok (.getfield 83, 3) := dk_180 0 83 (dk_at dksX0_laysTables_2 8 rfl rfl)
theorem dX0_laysTables_57 : decode cX0_laysTables 57 = .ok (.iconst 2, 1) := dk_5 (dk_at dksX0_laysTables_2 11 rfl rfl)
theorem dX0_laysTables_58 : decode cX0_laysTables 58 = .ok (.iload 4, 2) := dk_21 4 (dk_at dksX0_laysTables_2 12 rfl rfl)
theorem dX0_laysTables_60 : decode cX0_laysTables 60 = .ok (.imul, 1) := dk_104 (dk_at dksX0_laysTables_2 14 rfl rfl)
theorem dX0_laysTables_61 : decode cX0_laysTables 61 = .ok (.iconst 0, 1) := dk_3 (dk_at dksX0_laysTables_2 15 rfl rfl)
theorem dX0_laysTables_62 : decode cX0_laysTables 62 = .ok (.iastore, 1) := dk_79 (dk_at dksX0_laysTables_2 16 rfl rfl)
theorem dX0_laysTables_63 : decode cX0_laysTables 63 = .ok (.aload_n 0, 1) := dk_42 (dk_at dksX0_laysTables_2 17 rfl rfl)
theorem dX0_laysTables_64 : decode cX0_laysTables 64 = .ok (.getfield 83, 3) := dk_180 0 83 (dk_at dksX0_laysTables_2 18 rfl rfl)
theorem dX0_laysTables_67 : decode cX0_laysTables 67 = .ok (.iconst 2, 1) := dk_5 (dk_at dksX0_laysTables_2 21 rfl rfl)
theorem dX0_laysTables_68 : decode cX0_laysTables 68 = .ok (.iload 4, 2) := dk_21 4 (dk_at dksX0_laysTables_2 22 rfl rfl)
theorem dX0_laysTables_70 : decode cX0_laysTables 70 = .ok (.imul, 1) := dk_104 (dk_at dksX0_laysTables_3 0 rfl rfl)
theorem dX0_laysTables_71 : decode cX0_laysTables 71 = .ok (.iconst 1, 1) := dk_4 (dk_at dksX0_laysTables_3 1 rfl rfl)
theorem dX0_laysTables_72 : decode cX0_laysTables 72 = .ok (.iadd, 1) := dk_96 (dk_at dksX0_laysTables_3 2 rfl rfl)
theorem dX0_laysTables_73 : decode cX0_laysTables 73 = .ok (.iconst 0, 1) := dk_3 (dk_at dksX0_laysTables_3 3 rfl rfl)
theorem dX0_laysTables_74 : decode cX0_laysTables 74 = .ok (.iastore, 1) := dk_79 (dk_at dksX0_laysTables_3 4 rfl rfl)
theorem dX0_laysTables_75 : decode cX0_laysTables 75 = .ok (.iconst 0, 1) := dk_3 (dk_at dksX0_laysTables_3 5 rfl rfl)
theorem dX0_laysTables_76 : decode cX0_laysTables 76 = .ok (.istore 5, 2) := dk_54 5 (dk_at dksX0_laysTables_3 6 rfl rfl)
theorem dX0_laysTables_78 : decode cX0_laysTables 78 = .ok (.iload 5, 2) := dk_21 5 (dk_at dksX0_laysTables_3 8 rfl rfl)
theorem dX0_laysTables_80 : decode cX0_laysTables 80 = .ok (.aload_n 0, 1) := dk_42 (dk_at dksX0_laysTables_3 10 rfl rfl)
theorem dX0_laysTables_81 : decode cX0_laysTables 81 = .ok (.getfield 17, 3) := dk_180 0 17 (dk_at dksX0_laysTables_3 11 rfl rfl)
theorem dX0_laysTables_84 : decode cX0_laysTables 84 = .ok (.getfield 160, 3) := dk_180 0 160 (dk_at dksX0_laysTables_3 14 rfl rfl)
theorem dX0_laysTables_87 : decode cX0_laysTables 87 = .ok (.if_icmp .ge 116, 3) := dk_162 0 116 (dk_at dksX0_laysTables_3 17 rfl rfl)
theorem dX0_laysTables_90 : decode cX0_laysTables 90 = .ok (.aload_n 0, 1) := dk_42 (dk_at dksX0_laysTables_3 20 rfl rfl)
theorem dX0_laysTables_91 : decode cX0_laysTables 91 = .ok (.getfield 79, 3) := dk_180 0 79 (dk_at dksX0_laysTables_3 21 rfl rfl)
theorem dX0_laysTables_94 : decode cX0_laysTables 94 = .ok (.iload 4, 2) := dk_21 4 (dk_at dksX0_laysTables_4 0 rfl rfl)
theorem dX0_laysTables_96 : decode cX0_laysTables 96 = .ok (.dup2, 1) := dk_92 (dk_at dksX0_laysTables_4 2 rfl rfl)
theorem dX0_laysTables_97 : decode cX0_laysTables 97 = .ok (.iaload, 1) := dk_46 (dk_at dksX0_laysTables_4 3 rfl rfl)
theorem dX0_laysTables_98 : decode cX0_laysTables 98 = .ok (.aload_n 0, 1) := dk_42 (dk_at dksX0_laysTables_4 4 rfl rfl)
theorem dX0_laysTables_99 : decode cX0_laysTables 99 = .ok (.getfield 17, 3) := dk_180 0 17 (dk_at dksX0_laysTables_4 5 rfl rfl)
theorem dX0_laysTables_102 : decode cX0_laysTables 102 = .ok (.iload_n 3, 1) := dk_29 (dk_at dksX0_laysTables_4 8 rfl rfl)
theorem dX0_laysTables_103 : decode cX0_laysTables 103 = .ok (.iload_n 2, 1) := dk_28 (dk_at dksX0_laysTables_4 9 rfl rfl)
theorem dX0_laysTables_104 : decode cX0_laysTables 104 = .ok (.iload 5, 2) := dk_21 5 (dk_at dksX0_laysTables_4 10 rfl rfl)
theorem dX0_laysTables_106 : decode cX0_laysTables 106 = .ok (.iload_n 1, 1) := dk_27 (dk_at dksX0_laysTables_4 12 rfl rfl)
theorem dX0_laysTables_107 : decode cX0_laysTables 107 = .ok (.invokevirtual 21, 3) := dk_182 0 21 (dk_at dksX0_laysTables_4 13 rfl rfl)
theorem dX0_laysTables_110 : decode cX0_laysTables 110 = .ok (.ifCond .eq 10, 3) := dk_153 0 10 (dk_at dksX0_laysTables_4 16 rfl rfl)
theorem dX0_laysTables_113 : decode cX0_laysTables 113 = .ok (.iconst 1, 1) := dk_4 (dk_at dksX0_laysTables_4 19 rfl rfl)
theorem dX0_laysTables_114 : decode cX0_laysTables 114 = .ok (.iload 5, 2) := dk_21 5 (dk_at dksX0_laysTables_4 20 rfl rfl)
theorem dX0_laysTables_116 : decode cX0_laysTables 116 = .ok (.ishl, 1) := dk_120 (dk_at dksX0_laysTables_4 22 rfl rfl)
theorem dX0_laysTables_117 : decode cX0_laysTables 117 = .ok (.goto 4, 3) := dk_167 0 4 (dk_at dksX0_laysTables_5 0 rfl rfl)
theorem dX0_laysTables_120 : decode cX0_laysTables 120 = .ok (.iconst 0, 1) := dk_3 (dk_at dksX0_laysTables_5 3 rfl rfl)
theorem dX0_laysTables_121 : decode cX0_laysTables 121 = .ok (.ior, 1) := dk_128 (dk_at dksX0_laysTables_5 4 rfl rfl)
theorem dX0_laysTables_122 : decode cX0_laysTables 122 = .ok (.iastore, 1) := dk_79 (dk_at dksX0_laysTables_5 5 rfl rfl)
theorem dX0_laysTables_123 : decode cX0_laysTables 123 = .ok (.aload_n 0, 1) := dk_42 (dk_at dksX0_laysTables_5 6 rfl rfl)
theorem dX0_laysTables_124 : decode cX0_laysTables 124 = .ok (.getfield 83, 3) := dk_180 0 83 (dk_at dksX0_laysTables_5 7 rfl rfl)
theorem dX0_laysTables_127 : decode cX0_laysTables 127 = .ok (.iconst 2, 1) := dk_5 (dk_at dksX0_laysTables_5 10 rfl rfl)
theorem dX0_laysTables_128 : decode cX0_laysTables 128 = .ok (.iload 4, 2) := dk_21 4 (dk_at dksX0_laysTables_5 11 rfl rfl)
theorem dX0_laysTables_130 : decode cX0_laysTables 130 = .ok (.imul, 1) := dk_104 (dk_at dksX0_laysTables_5 13 rfl rfl)
theorem dX0_laysTables_131 : decode cX0_laysTables 131 = .ok (.dup2, 1) := dk_92 (dk_at dksX0_laysTables_5 14 rfl rfl)
theorem dX0_laysTables_132 : decode cX0_laysTables 132 = .ok (.iaload, 1) := dk_46 (dk_at dksX0_laysTables_5 15 rfl rfl)
theorem dX0_laysTables_133 : decode cX0_laysTables 133 = .ok (.aload_n 0, 1) := dk_42 (dk_at dksX0_laysTables_5 16 rfl rfl)
theorem dX0_laysTables_134 : decode cX0_laysTables 134 = .ok (.getfield 17, 3) := dk_180 0 17 (dk_at dksX0_laysTables_5 17 rfl rfl)
theorem dX0_laysTables_137 : decode cX0_laysTables 137 = .ok (.iload_n 3, 1) := dk_29 (dk_at dksX0_laysTables_5 20 rfl rfl)
theorem dX0_laysTables_138 : decode cX0_laysTables 138 = .ok (.iconst 0, 1) := dk_3 (dk_at dksX0_laysTables_5 21 rfl rfl)
theorem dX0_laysTables_139 : decode cX0_laysTables 139 = .ok (.iload_n 2, 1) := dk_28 (dk_at dksX0_laysTables_5 22 rfl rfl)
theorem dX0_laysTables_140 : decode cX0_laysTables 140 = .ok (.iload 5, 2) := dk_21 5 (dk_at dksX0_laysTables_6 0 rfl rfl)
theorem dX0_laysTables_142 : decode cX0_laysTables 142 = .ok (.iload_n 1, 1) := dk_27 (dk_at dksX0_laysTables_6 2 rfl rfl)
theorem dX0_laysTables_143 : decode cX0_laysTables 143 = .ok (.invokevirtual 27, 3) := dk_182 0 27 (dk_at dksX0_laysTables_6 3 rfl rfl)
theorem dX0_laysTables_146 : decode cX0_laysTables 146 = .ok (.ifCond .eq 10, 3) := dk_153 0 10 (dk_at dksX0_laysTables_6 6 rfl rfl)
theorem dX0_laysTables_149 : decode cX0_laysTables 149 = .ok (.iconst 1, 1) := dk_4 (dk_at dksX0_laysTables_6 9 rfl rfl)
theorem dX0_laysTables_150 : decode cX0_laysTables 150 = .ok (.iload 5, 2) := dk_21 5 (dk_at dksX0_laysTables_6 10 rfl rfl)
theorem dX0_laysTables_152 : decode cX0_laysTables 152 = .ok (.ishl, 1) := dk_120 (dk_at dksX0_laysTables_6 12 rfl rfl)
theorem dX0_laysTables_153 : decode cX0_laysTables 153 = .ok (.goto 4, 3) := dk_167 0 4 (dk_at dksX0_laysTables_6 13 rfl rfl)
theorem dX0_laysTables_156 : decode cX0_laysTables 156 = .ok (.iconst 0, 1) := dk_3 (dk_at dksX0_laysTables_6 16 rfl rfl)
theorem dX0_laysTables_157 : decode cX0_laysTables 157 = .ok (.ior, 1) := dk_128 (dk_at dksX0_laysTables_6 17 rfl rfl)
theorem dX0_laysTables_158 : decode cX0_laysTables 158 = .ok (.iastore, 1) := dk_79 (dk_at dksX0_laysTables_6 18 rfl rfl)
theorem dX0_laysTables_159 : decode cX0_laysTables 159 = .ok (.aload_n 0, 1) := dk_42 (dk_at dksX0_laysTables_6 19 rfl rfl)
theorem dX0_laysTables_160 : decode cX0_laysTables 160 = .ok (.getfield 83, 3) := dk_180 0 83 (dk_at dksX0_laysTables_6 20 rfl rfl)
theorem dX0_laysTables_163 : decode cX0_laysTables 163 = .ok (.iconst 2, 1) := dk_5 (dk_at dksX0_laysTables_6 23 rfl rfl)
theorem dX0_laysTables_164 : decode cX0_laysTables 164 = .ok (.iload 4, 2) := dk_21 4 (dk_at dksX0_laysTables_7 0 rfl rfl)
theorem dX0_laysTables_166 : decode cX0_laysTables 166 = .ok (.imul, 1) := dk_104 (dk_at dksX0_laysTables_7 2 rfl rfl)
theorem dX0_laysTables_167 : decode cX0_laysTables 167 = .ok (.iconst 1, 1) := dk_4 (dk_at dksX0_laysTables_7 3 rfl rfl)
theorem dX0_laysTables_168 : decode cX0_laysTables 168 = .ok (.iadd, 1) := dk_96 (dk_at dksX0_laysTables_7 4 rfl rfl)
theorem dX0_laysTables_169 : decode cX0_laysTables 169 = .ok (.dup2, 1) := dk_92 (dk_at dksX0_laysTables_7 5 rfl rfl)
theorem dX0_laysTables_170 : decode cX0_laysTables 170 = .ok (.iaload, 1) := dk_46 (dk_at dksX0_laysTables_7 6 rfl rfl)
theorem dX0_laysTables_171 : decode cX0_laysTables 171 = .ok (.aload_n 0, 1) := dk_42 (dk_at dksX0_laysTables_7 7 rfl rfl)
theorem dX0_laysTables_172 : decode cX0_laysTables 172 = .ok (.getfield 17, 3) := dk_180 0 17 (dk_at dksX0_laysTables_7 8 rfl rfl)
theorem dX0_laysTables_175 : decode cX0_laysTables 175 = .ok (.iload_n 3, 1) := dk_29 (dk_at dksX0_laysTables_7 11 rfl rfl)
theorem dX0_laysTables_176 : decode cX0_laysTables 176 = .ok (.iconst 1, 1) := dk_4 (dk_at dksX0_laysTables_7 12 rfl rfl)
theorem dX0_laysTables_177 : decode cX0_laysTables 177 = .ok (.iload_n 2, 1) := dk_28 (dk_at dksX0_laysTables_7 13 rfl rfl)
theorem dX0_laysTables_178 : decode cX0_laysTables 178 = .ok (.iload 5, 2) := dk_21 5 (dk_at dksX0_laysTables_7 14 rfl rfl)
theorem dX0_laysTables_180 : decode cX0_laysTables 180 = .ok (.iload_n 1, 1) := dk_27 (dk_at dksX0_laysTables_7 16 rfl rfl)
theorem dX0_laysTables_181 : decode cX0_laysTables 181 = .ok (.invokevirtual 27, 3) := dk_182 0 27 (dk_at dksX0_laysTables_7 17 rfl rfl)
theorem dX0_laysTables_184 : decode cX0_laysTables 184 = .ok (.ifCond .eq 10, 3) := dk_153 0 10 (dk_at dksX0_laysTables_7 20 rfl rfl)
theorem dX0_laysTables_187 : decode cX0_laysTables 187 = .ok (.iconst 1, 1) := dk_4 (dk_at dksX0_laysTables_7 23 rfl rfl)
theorem dX0_laysTables_188 : decode cX0_laysTables 188 = .ok (.iload 5, 2) := dk_21 5 (dk_at dksX0_laysTables_8 0 rfl rfl)
theorem dX0_laysTables_190 : decode cX0_laysTables 190 = .ok (.ishl, 1) := dk_120 (dk_at dksX0_laysTables_8 2 rfl rfl)
theorem dX0_laysTables_191 : decode cX0_laysTables 191 = .ok (.goto 4, 3) := dk_167 0 4 (dk_at dksX0_laysTables_8 3 rfl rfl)
theorem dX0_laysTables_194 : decode cX0_laysTables 194 = .ok (.iconst 0, 1) := dk_3 (dk_at dksX0_laysTables_8 6 rfl rfl)
theorem dX0_laysTables_195 : decode cX0_laysTables 195 = .ok (.ior, 1) := dk_128 (dk_at dksX0_laysTables_8 7 rfl rfl)
theorem dX0_laysTables_196 : decode cX0_laysTables 196 = .ok (.iastore, 1) := dk_79 (dk_at dksX0_laysTables_8 8 rfl rfl)
theorem dX0_laysTables_197 : decode cX0_laysTables 197 = .ok (.iinc 5 1, 3) := dk_132 5 1 (dk_at dksX0_laysTables_8 9 rfl rfl)
theorem dX0_laysTables_200 : decode cX0_laysTables 200 = .ok (.goto (-122), 3) := dk_167 255 134 (dk_at dksX0_laysTables_8 12 rfl rfl)
theorem dX0_laysTables_203 : decode cX0_laysTables 203 = .ok (.iinc 3 1, 3) := dk_132 3 1 (dk_at dksX0_laysTables_8 15 rfl rfl)
theorem dX0_laysTables_206 : decode cX0_laysTables 206 = .ok (.goto (-184), 3) := dk_167 255 72 (dk_at dksX0_laysTables_8 18 rfl rfl)
theorem dX0_laysTables_209 : decode cX0_laysTables 209 = .ok (.iinc 2 1, 3) := dk_132 2 1 (dk_at dksX0_laysTables_8 21 rfl rfl)
theorem dX0_laysTables_212 : decode cX0_laysTables 212 = .ok (.goto (-203), 3) := dk_167 255 53 (dk_at dksX0_laysTables_9 0 rfl rfl)
theorem dX0_laysTables_215 : decode cX0_laysTables 215 = .ok (.iinc 1 1, 3) := dk_132 1 1 (dk_at dksX0_laysTables_9 3 rfl rfl)
theorem dX0_laysTables_218 : decode cX0_laysTables 218 = .ok (.goto (-216), 3) := dk_167 255 40 (dk_at dksX0_laysTables_9 6 rfl rfl)
theorem dX0_laysTables_221 : decode cX0_laysTables 221 = .ok (.return_, 1) := dk_177 (dk_at dksX0_laysTables_9 9 rfl rfl)
def dkwX0_asksOwn_0 : List UInt8 := [42, 180, 0, 60, 180, 0, 225, 3, 42, 180, 0, 86, 3, 16, 6, 184, 1, 18, 177]
abbrev dktX0_asksOwn_0 : List UInt8 := dkwX0_asksOwn_0 ++ []
theorem dksX0_asksOwn_0 : cX0_asksOwn.data.toList.drop 0 = dktX0_asksOwn_0 := by decide +kernel
theorem dX0_asksOwn_0 : decode cX0_asksOwn 0 = .ok (.aload_n 0, 1) := dk_42 (dk_at dksX0_asksOwn_0 0 rfl rfl)
theorem dX0_asksOwn_1 : decode cX0_asksOwn 1 = .ok (.getfield 60, 3) := dk_180 0 60 (dk_at dksX0_asksOwn_0 1 rfl rfl)
theorem dX0_asksOwn_4 : decode cX0_asksOwn 4 = .ok (.getfield 225, 3) := dk_180 0 225 (dk_at dksX0_asksOwn_0 4 rfl rfl)
theorem dX0_asksOwn_7 : decode cX0_asksOwn 7 = .ok (.iconst 0, 1) := dk_3 (dk_at dksX0_asksOwn_0 7 rfl rfl)
theorem dX0_asksOwn_8 : decode cX0_asksOwn 8 = .ok (.aload_n 0, 1) := dk_42 (dk_at dksX0_asksOwn_0 8 rfl rfl)
theorem dX0_asksOwn_9 : decode cX0_asksOwn 9 = .ok (.getfield 86, 3) := dk_180 0 86 (dk_at dksX0_asksOwn_0 9 rfl rfl)
theorem dX0_asksOwn_12 : decode cX0_asksOwn 12 = .ok (.iconst 0, 1) := dk_3 (dk_at dksX0_asksOwn_0 12 rfl rfl)
theorem dX0_asksOwn_13 : decode cX0_asksOwn 13 = .ok (.bipush 6, 2) := dk_16 6 (dk_at dksX0_asksOwn_0 13 rfl rfl)
theorem dX0_asksOwn_15 : decode cX0_asksOwn 15 = .ok (.invokestatic 274, 3) := dk_184 1 18 (dk_at dksX0_asksOwn_0 15 rfl rfl)
theorem dX0_asksOwn_18 : decode cX0_asksOwn 18 = .ok (.return_, 1) := dk_177 (dk_at dksX0_asksOwn_0 18 rfl rfl)
def dkwX0_hoursFrom_2 : List UInt8 := [132, 6, 1, 167, 255, 223, 2, 172]
abbrev dktX0_hoursFrom_2 : List UInt8 := dkwX0_hoursFrom_2 ++ []
def dkwX0_hoursFrom_1 : List UInt8 := [21, 5, 28, 184, 0, 188, 153, 0, 6, 21, 6, 172, 42, 27, 21, 5, 21, 6, 182, 1, 34, 54, 5]
abbrev dktX0_hoursFrom_1 : List UInt8 := dkwX0_hoursFrom_1 ++ dktX0_hoursFrom_2
def dkwX0_hoursFrom_0 : List UInt8 := [4, 42, 180, 0, 60, 180, 0, 173, 27, 46, 120, 54, 5, 29, 54, 6, 21, 6, 21, 4, 163, 0, 32]
abbrev dktX0_hoursFrom_0 : List UInt8 := dkwX0_hoursFrom_0 ++ dktX0_hoursFrom_1
theorem dksX0_hoursFrom_0 : cX0_hoursFrom.data.toList.drop 0 = dktX0_hoursFrom_0 := by decide +kernel
theorem dksX0_hoursFrom_1 : cX0_hoursFrom.data.toList.drop 23 = dktX0_hoursFrom_1 := dk_seg dksX0_hoursFrom_0 23 rfl rfl
theorem dksX0_hoursFrom_2 : cX0_hoursFrom.data.toList.drop 46 = dktX0_hoursFrom_2 := dk_seg dksX0_hoursFrom_1 23 rfl rfl
theorem dX0_hoursFrom_0 : decode cX0_hoursFrom 0 = .ok (.iconst 1, 1) := dk_4 (dk_at dksX0_hoursFrom_0 0 rfl rfl)
theorem dX0_hoursFrom_1 : decode cX0_hoursFrom 1 = .ok (.aload_n 0, 1) := dk_42 (dk_at dksX0_hoursFrom_0 1 rfl rfl)
theorem dX0_hoursFrom_2 : decode cX0_hoursFrom 2 = .ok (.getfield 60, 3) := dk_180 0 60 (dk_at dksX0_hoursFrom_0 2 rfl rfl)
theorem dX0_hoursFrom_5 : decode cX0_hoursFrom 5 = .ok (.getfield 173, 3) := dk_180 0 173 (dk_at dksX0_hoursFrom_0 5 rfl rfl)
theorem dX0_hoursFrom_8 : decode cX0_hoursFrom 8 = .ok (.iload_n 1, 1) := dk_27 (dk_at dksX0_hoursFrom_0 8 rfl rfl)
theorem dX0_hoursFrom_9 : decode cX0_hoursFrom 9 = .ok (.iaload, 1) := dk_46 (dk_at dksX0_hoursFrom_0 9 rfl rfl)
theorem dX0_hoursFrom_10 : decode cX0_hoursFrom 10 = .ok (.ishl, 1) := dk_120 (dk_at dksX0_hoursFrom_0 10 rfl rfl)
theorem dX0_hoursFrom_11 : decode cX0_hoursFrom 11 = .ok (.istore 5, 2) := dk_54 5 (dk_at dksX0_hoursFrom_0 11 rfl rfl)
theorem dX0_hoursFrom_13 : decode cX0_hoursFrom 13 = .ok (.iload_n 3, 1) := dk_29 (dk_at dksX0_hoursFrom_0 13 rfl rfl)
theorem dX0_hoursFrom_14 : decode cX0_hoursFrom 14 = .ok (.istore 6, 2) := dk_54 6 (dk_at dksX0_hoursFrom_0 14 rfl rfl)
theorem dX0_hoursFrom_16 : decode cX0_hoursFrom 16 = .ok (.iload 6, 2) := dk_21 6 (dk_at dksX0_hoursFrom_0 16 rfl rfl)
theorem dX0_hoursFrom_18 : decode cX0_hoursFrom 18 = .ok (.iload 4, 2) := dk_21 4 (dk_at dksX0_hoursFrom_0 18 rfl rfl)
theorem dX0_hoursFrom_20 : decode cX0_hoursFrom 20 = .ok (.if_icmp .gt 32, 3) := dk_163 0 32 (dk_at dksX0_hoursFrom_0 20 rfl rfl)
theorem dX0_hoursFrom_23 : decode cX0_hoursFrom 23 = .ok (.iload 5, 2) := dk_21 5 (dk_at dksX0_hoursFrom_1 0 rfl rfl)
theorem dX0_hoursFrom_25 : decode cX0_hoursFrom 25 = .ok (.iload_n 2, 1) := dk_28 (dk_at dksX0_hoursFrom_1 2 rfl rfl)
theorem dX0_hoursFrom_26 : decode cX0_hoursFrom 26 = .ok (.invokestatic 188, 3) := dk_184 0 188 (dk_at dksX0_hoursFrom_1 3 rfl rfl)
theorem dX0_hoursFrom_29 : decode cX0_hoursFrom 29 = .ok (.ifCond .eq 6, 3) := dk_153 0 6 (dk_at dksX0_hoursFrom_1 6 rfl rfl)
theorem dX0_hoursFrom_32 : decode cX0_hoursFrom 32 = .ok (.iload 6, 2) := dk_21 6 (dk_at dksX0_hoursFrom_1 9 rfl rfl)
theorem dX0_hoursFrom_34 : decode cX0_hoursFrom 34 = .ok (.ireturn, 1) := dk_172 (dk_at dksX0_hoursFrom_1 11 rfl rfl)
theorem dX0_hoursFrom_35 : decode cX0_hoursFrom 35 = .ok (.aload_n 0, 1) := dk_42 (dk_at dksX0_hoursFrom_1 12 rfl rfl)
theorem dX0_hoursFrom_36 : decode cX0_hoursFrom 36 = .ok (.iload_n 1, 1) := dk_27 (dk_at dksX0_hoursFrom_1 13 rfl rfl)
theorem dX0_hoursFrom_37 : decode cX0_hoursFrom 37 = .ok (.iload 5, 2) := dk_21 5 (dk_at dksX0_hoursFrom_1 14 rfl rfl)
theorem dX0_hoursFrom_39 : decode cX0_hoursFrom 39 = .ok (.iload 6, 2) := dk_21 6 (dk_at dksX0_hoursFrom_1 16 rfl rfl)
theorem dX0_hoursFrom_41 : decode cX0_hoursFrom 41 = .ok (.invokevirtual 290, 3) := dk_182 1 34 (dk_at dksX0_hoursFrom_1 18 rfl rfl)
theorem dX0_hoursFrom_44 : decode cX0_hoursFrom 44 = .ok (.istore 5, 2) := dk_54 5 (dk_at dksX0_hoursFrom_1 21 rfl rfl)
theorem dX0_hoursFrom_46 : decode cX0_hoursFrom 46 = .ok (.iinc 6 1, 3) := dk_132 6 1 (dk_at dksX0_hoursFrom_2 0 rfl rfl)
theorem dX0_hoursFrom_49 : decode cX0_hoursFrom 49 = .ok (.goto (-33), 3) := dk_167 255 223 (dk_at dksX0_hoursFrom_2 3 rfl rfl)
theorem dX0_hoursFrom_52 : decode cX0_hoursFrom 52 = .ok (.iconst (-1), 1) := dk_2 (dk_at dksX0_hoursFrom_2 6 rfl rfl)
theorem dX0_hoursFrom_53 : decode cX0_hoursFrom 53 = .ok (.ireturn, 1) := dk_172 (dk_at dksX0_hoursFrom_2 7 rfl rfl)
def dkwX0_onward_3 : List UInt8 := [54, 4, 132, 6, 1, 167, 255, 210, 132, 5, 1, 167, 255, 182, 21, 4, 172]
abbrev dktX0_onward_3 : List UInt8 := dkwX0_onward_3 ++ []
def dkwX0_onward_2 : List UInt8 := [42, 29, 182, 1, 27, 182, 1, 30, 54, 7, 21, 7, 2, 159, 0, 12, 21, 4, 4, 21, 7, 120, 128]
abbrev dktX0_onward_2 : List UInt8 := dkwX0_onward_2 ++ dktX0_onward_3
def dkwX0_onward_1 : List UInt8 := [167, 0, 55, 4, 54, 6, 21, 6, 16, 7, 162, 0, 45, 42, 27, 21, 6, 21, 5, 42, 29, 182, 1, 24]
abbrev dktX0_onward_1 : List UInt8 := dkwX0_onward_1 ++ dktX0_onward_2
def dkwX0_onward_0 : List UInt8 := [28, 54, 4, 3, 54, 5, 21, 5, 16, 9, 162, 0, 73, 28, 21, 5, 184, 0, 188, 154, 0, 6]
abbrev dktX0_onward_0 : List UInt8 := dkwX0_onward_0 ++ dktX0_onward_1
theorem dksX0_onward_0 : cX0_onward.data.toList.drop 0 = dktX0_onward_0 := by decide +kernel
theorem dksX0_onward_1 : cX0_onward.data.toList.drop 22 = dktX0_onward_1 := dk_seg dksX0_onward_0 22 rfl rfl
theorem dksX0_onward_2 : cX0_onward.data.toList.drop 46 = dktX0_onward_2 := dk_seg dksX0_onward_1 24 rfl rfl
theorem dksX0_onward_3 : cX0_onward.data.toList.drop 69 = dktX0_onward_3 := dk_seg dksX0_onward_2 23 rfl rfl
theorem dX0_onward_0 : decode cX0_onward 0 = .ok (.iload_n 2, 1) := dk_28 (dk_at dksX0_onward_0 0 rfl rfl)
theorem dX0_onward_1 : decode cX0_onward 1 = .ok (.istore 4, 2) := dk_54 4 (dk_at dksX0_onward_0 1 rfl rfl)
theorem dX0_onward_3 : decode cX0_onward 3 = .ok (.iconst 0, 1) := dk_3 (dk_at dksX0_onward_0 3 rfl rfl)
theorem dX0_onward_4 : decode cX0_onward 4 = .ok (.istore 5, 2) := dk_54 5 (dk_at dksX0_onward_0 4 rfl rfl)
theorem dX0_onward_6 : decode cX0_onward 6 = .ok (.iload 5, 2) := dk_21 5 (dk_at dksX0_onward_0 6 rfl rfl)
theorem dX0_onward_8 : decode cX0_onward 8 = .ok (.bipush 9, 2) := dk_16 9 (dk_at dksX0_onward_0 8 rfl rfl)
theorem dX0_onward_10 : decode cX0_onward 10 = .ok (.if_icmp .ge 73, 3) := dk_162 0 73 (dk_at dksX0_onward_0 10 rfl rfl)
theorem dX0_onward_13 : decode cX0_onward 13 = .ok (.iload_n 2, 1) := dk_28 (dk_at dksX0_onward_0 13 rfl rfl)
theorem dX0_onward_14 : decode cX0_onward 14 = .ok (.iload 5, 2) := dk_21 5 (dk_at dksX0_onward_0 14 rfl rfl)
theorem dX0_onward_16 : decode cX0_onward 16 = .ok (.invokestatic 188, 3) := dk_184 0 188 (dk_at dksX0_onward_0 16 rfl rfl)
theorem dX0_onward_19 : decode cX0_onward 19 = .ok (.ifCond .ne 6, 3) := dk_154 0 6 (dk_at dksX0_onward_0 19 rfl rfl)
theorem dX0_onward_22 : decode cX0_onward 22 = .ok (.goto 55, 3) := dk_167 0 55 (dk_at dksX0_onward_1 0 rfl rfl)
theorem dX0_onward_25 : decode cX0_onward 25 = .ok (.iconst 1, 1) := dk_4 (dk_at dksX0_onward_1 3 rfl rfl)
theorem dX0_onward_26 : decode cX0_onward 26 = .ok (.istore 6, 2) := dk_54 6 (dk_at dksX0_onward_1 4 rfl rfl)
theorem dX0_onward_28 : decode cX0_onward 28 = .ok (.iload 6, 2) := dk_21 6 (dk_at dksX0_onward_1 6 rfl rfl)
theorem dX0_onward_30 : decode cX0_onward 30 = .ok (.bipush 7, 2) := dk_16 7 (dk_at dksX0_onward_1 8 rfl rfl)
theorem dX0_onward_32 : decode cX0_onward 32 = .ok (.if_icmp .ge 45, 3) := dk_162 0 45 (dk_at dksX0_onward_1 10 rfl rfl)
theorem dX0_onward_35 : decode cX0_onward 35 = .ok (.aload_n 0, 1) := dk_42 (dk_at dksX0_onward_1 13 rfl rfl)
theorem dX0_onward_36 : decode cX0_onward 36 = .ok (.iload_n 1, 1) := dk_27 (dk_at dksX0_onward_1 14 rfl rfl)
theorem dX0_onward_37 : decode cX0_onward 37 = .ok (.iload 6, 2) := dk_21 6 (dk_at dksX0_onward_1 15 rfl rfl)
theorem dX0_onward_39 : decode cX0_onward 39 = .ok (.iload 5, 2) := dk_21 5 (dk_at dksX0_onward_1 17 rfl rfl)
theorem dX0_onward_41 : decode cX0_onward 41 = .ok (.aload_n 0, 1) := dk_42 (dk_at dksX0_onward_1 19 rfl rfl)
theorem dX0_onward_42 : decode cX0_onward 42 = .ok (.iload_n 3, 1) := dk_29 (dk_at dksX0_onward_1 20 rfl rfl)
theorem dX0_onward_43 : decode cX0_onward 43 = .ok (.invokevirtual 280, 3) := dk_182 1 24 (dk_at dksX0_onward_1 21 rfl rfl)
theorem dX0_onward_46 : decode cX0_onward 46 = .ok (.aload_n 0, 1) := dk_42 (dk_at dksX0_onward_2 0 rfl rfl)
theorem dX0_onward_47 : decode cX0_onward 47 = .ok (.iload_n 3, 1) := dk_29 (dk_at dksX0_onward_2 1 rfl rfl)
theorem dX0_onward_48 : decode cX0_onward 48 = .ok (.invokevirtual 283, 3) := dk_182 1 27 (dk_at dksX0_onward_2 2 rfl rfl)
theorem dX0_onward_51 : decode cX0_onward 51 = .ok (.invokevirtual 286, 3) := dk_182 1 30 (dk_at dksX0_onward_2 5 rfl rfl)
theorem dX0_onward_54 : decode cX0_onward 54 = .ok (.istore 7, 2) := dk_54 7 (dk_at dksX0_onward_2 8 rfl rfl)
theorem dX0_onward_56 : decode cX0_onward 56 = .ok (.iload 7, 2) := dk_21 7 (dk_at dksX0_onward_2 10 rfl rfl)
theorem dX0_onward_58 : decode cX0_onward 58 = .ok (.iconst (-1), 1) := dk_2 (dk_at dksX0_onward_2 12 rfl rfl)
theorem dX0_onward_59 : decode cX0_onward 59 = .ok (.if_icmp .eq 12, 3) := dk_159 0 12 (dk_at dksX0_onward_2 13 rfl rfl)
theorem dX0_onward_62 : decode cX0_onward 62 = .ok (.iload 4, 2) := dk_21 4 (dk_at dksX0_onward_2 16 rfl rfl)
theorem dX0_onward_64 : decode cX0_onward 64 = .ok (.iconst 1, 1) := dk_4 (dk_at dksX0_onward_2 18 rfl rfl)
theorem dX0_onward_65 : decode cX0_onward 65 = .ok (.iload 7, 2) := dk_21 7 (dk_at dksX0_onward_2 19 rfl rfl)
theorem dX0_onward_67 : decode cX0_onward 67 = .ok (.ishl, 1) := dk_120 (dk_at dksX0_onward_2 21 rfl rfl)
theorem dX0_onward_68 : decode cX0_onward 68 = .ok (.ior, 1) := dk_128 (dk_at dksX0_onward_2 22 rfl rfl)
theorem dX0_onward_69 : decode cX0_onward 69 = .ok (.istore 4, 2) := dk_54 4 (dk_at dksX0_onward_3 0 rfl rfl)
theorem dX0_onward_71 : decode cX0_onward 71 = .ok (.iinc 6 1, 3) := dk_132 6 1 (dk_at dksX0_onward_3 2 rfl rfl)
theorem dX0_onward_74 : decode cX0_onward 74 = .ok (.goto (-46), 3) := dk_167 255 210 (dk_at dksX0_onward_3 5 rfl rfl)
theorem dX0_onward_77 : decode cX0_onward 77 = .ok (.iinc 5 1, 3) := dk_132 5 1 (dk_at dksX0_onward_3 8 rfl rfl)
theorem dX0_onward_80 : decode cX0_onward 80 = .ok (.goto (-74), 3) := dk_167 255 182 (dk_at dksX0_onward_3 11 rfl rfl)
theorem dX0_onward_83 : decode cX0_onward 83 = .ok (.iload 4, 2) := dk_21 4 (dk_at dksX0_onward_3 14 rfl rfl)
theorem dX0_onward_85 : decode cX0_onward 85 = .ok (.ireturn, 1) := dk_172 (dk_at dksX0_onward_3 16 rfl rfl)
def dkwX0_hourIn_0 : List UInt8 := [42, 180, 0, 60, 180, 1, 4, 27, 96, 42, 180, 0, 17, 180, 0, 217, 112, 172]
abbrev dktX0_hourIn_0 : List UInt8 := dkwX0_hourIn_0 ++ []
theorem dksX0_hourIn_0 : cX0_hourIn.data.toList.drop 0 = dktX0_hourIn_0 := by decide +kernel
theorem dX0_hourIn_0 : decode cX0_hourIn 0 = .ok (.aload_n 0, 1) := dk_42 (dk_at dksX0_hourIn_0 0 rfl rfl)
theorem dX0_hourIn_1 : decode cX0_hourIn 1 = .ok (.getfield 60, 3) := dk_180 0 60 (dk_at dksX0_hourIn_0 1 rfl rfl)
theorem dX0_hourIn_4 : decode cX0_hourIn 4 = .ok (.getfield 260, 3) := dk_180 1 4 (dk_at dksX0_hourIn_0 4 rfl rfl)
theorem dX0_hourIn_7 : decode cX0_hourIn 7 = .ok (.iload_n 1, 1) := dk_27 (dk_at dksX0_hourIn_0 7 rfl rfl)
theorem dX0_hourIn_8 : decode cX0_hourIn 8 = .ok (.iadd, 1) := dk_96 (dk_at dksX0_hourIn_0 8 rfl rfl)
theorem dX0_hourIn_9 : decode cX0_hourIn 9 = .ok (.aload_n 0, 1) := dk_42 (dk_at dksX0_hourIn_0 9 rfl rfl)
theorem dX0_hourIn_10 : decode cX0_hourIn 10 = .ok (.getfield 17, 3) := dk_180 0 17 (dk_at dksX0_hourIn_0 10 rfl rfl)
theorem dX0_hourIn_13 : decode cX0_hourIn 13 = .ok (.getfield 217, 3) := dk_180 0 217 (dk_at dksX0_hourIn_0 13 rfl rfl)
theorem dX0_hourIn_16 : decode cX0_hourIn 16 = .ok (.irem, 1) := dk_112 (dk_at dksX0_hourIn_0 16 rfl rfl)
theorem dX0_hourIn_17 : decode cX0_hourIn 17 = .ok (.ireturn, 1) := dk_172 (dk_at dksX0_hourIn_0 17 rfl rfl)
def dkwX0_fogIn_0 : List UInt8 := [42, 180, 0, 60, 180, 0, 230, 27, 164, 0, 7, 4, 167, 0, 4, 3, 172]
abbrev dktX0_fogIn_0 : List UInt8 := dkwX0_fogIn_0 ++ []
theorem dksX0_fogIn_0 : cX0_fogIn.data.toList.drop 0 = dktX0_fogIn_0 := by decide +kernel
theorem dX0_fogIn_0 : decode cX0_fogIn 0 = .ok (.aload_n 0, 1) := dk_42 (dk_at dksX0_fogIn_0 0 rfl rfl)
theorem dX0_fogIn_1 : decode cX0_fogIn 1 = .ok (.getfield 60, 3) := dk_180 0 60 (dk_at dksX0_fogIn_0 1 rfl rfl)
theorem dX0_fogIn_4 : decode cX0_fogIn 4 = .ok (.getfield 230, 3) := dk_180 0 230 (dk_at dksX0_fogIn_0 4 rfl rfl)
theorem dX0_fogIn_7 : decode cX0_fogIn 7 = .ok (.iload_n 1, 1) := dk_27 (dk_at dksX0_fogIn_0 7 rfl rfl)
theorem dX0_fogIn_8 : decode cX0_fogIn 8 = .ok (.if_icmp .le 7, 3) := dk_164 0 7 (dk_at dksX0_fogIn_0 8 rfl rfl)
theorem dX0_fogIn_11 : decode cX0_fogIn 11 = .ok (.iconst 1, 1) := dk_4 (dk_at dksX0_fogIn_0 11 rfl rfl)
theorem dX0_fogIn_12 : decode cX0_fogIn 12 = .ok (.goto 4, 3) := dk_167 0 4 (dk_at dksX0_fogIn_0 12 rfl rfl)
theorem dX0_fogIn_15 : decode cX0_fogIn 15 = .ok (.iconst 0, 1) := dk_3 (dk_at dksX0_fogIn_0 15 rfl rfl)
theorem dX0_fogIn_16 : decode cX0_fogIn 16 = .ok (.ireturn, 1) := dk_172 (dk_at dksX0_fogIn_0 16 rfl rfl)
def dkwX0_leadsIn_4 : List UInt8 := [184, 0, 188, 153, 0, 8, 21, 7, 167, 0, 4, 2, 172]
abbrev dktX0_leadsIn_4 : List UInt8 := dkwX0_leadsIn_4 ++ []
def dkwX0_leadsIn_3 : List UInt8 := [180, 0, 79, 21, 8, 46, 167, 0, 16, 42, 180, 0, 83, 5, 21, 8, 104, 29, 5, 112, 96, 46, 27]
abbrev dktX0_leadsIn_3 : List UInt8 := dkwX0_leadsIn_3 ++ dktX0_leadsIn_4
def dkwX0_leadsIn_2 : List UInt8 := [50, 29, 21, 6, 182, 0, 7, 96, 54, 8, 42, 180, 0, 1, 28, 50, 182, 0, 13, 153, 0, 13, 42]
abbrev dktX0_leadsIn_2 : List UInt8 := dkwX0_leadsIn_2 ++ dktX0_leadsIn_3
def dkwX0_leadsIn_1 : List UInt8 := [21, 7, 2, 160, 0, 6, 21, 7, 172, 7, 16, 6, 21, 5, 104, 21, 4, 96, 104, 42, 180, 0, 1, 28]
abbrev dktX0_leadsIn_1 : List UInt8 := dkwX0_leadsIn_1 ++ dktX0_leadsIn_2
def dkwX0_leadsIn_0 : List UInt8 := [42, 180, 0, 86, 21, 4, 46, 54, 6, 42, 28, 29, 21, 6, 182, 0, 214, 54, 7, 28, 153, 0, 9]
abbrev dktX0_leadsIn_0 : List UInt8 := dkwX0_leadsIn_0 ++ dktX0_leadsIn_1
theorem dksX0_leadsIn_0 : cX0_leadsIn.data.toList.drop 0 = dktX0_leadsIn_0 := by decide +kernel
theorem dksX0_leadsIn_1 : cX0_leadsIn.data.toList.drop 23 = dktX0_leadsIn_1 := dk_seg dksX0_leadsIn_0 23 rfl rfl
theorem dksX0_leadsIn_2 : cX0_leadsIn.data.toList.drop 47 = dktX0_leadsIn_2 := dk_seg dksX0_leadsIn_1 24 rfl rfl
theorem dksX0_leadsIn_3 : cX0_leadsIn.data.toList.drop 70 = dktX0_leadsIn_3 := dk_seg dksX0_leadsIn_2 23 rfl rfl
theorem dksX0_leadsIn_4 : cX0_leadsIn.data.toList.drop 93 = dktX0_leadsIn_4 := dk_seg dksX0_leadsIn_3 23 rfl rfl
theorem dX0_leadsIn_0 : decode cX0_leadsIn 0 = .ok (.aload_n 0, 1) := dk_42 (dk_at dksX0_leadsIn_0 0 rfl rfl)
theorem dX0_leadsIn_1 : decode cX0_leadsIn 1 = .ok (.getfield 86, 3) := dk_180 0 86 (dk_at dksX0_leadsIn_0 1 rfl rfl)
theorem dX0_leadsIn_4 : decode cX0_leadsIn 4 = .ok (.iload 4, 2) := dk_21 4 (dk_at dksX0_leadsIn_0 4 rfl rfl)
theorem dX0_leadsIn_6 : decode cX0_leadsIn 6 = .ok (.iaload, 1) := dk_46 (dk_at dksX0_leadsIn_0 6 rfl rfl)
theorem dX0_leadsIn_7 : decode cX0_leadsIn 7 = .ok (.istore 6, 2) := dk_54 6 (dk_at dksX0_leadsIn_0 7 rfl rfl)
theorem dX0_leadsIn_9 : decode cX0_leadsIn 9 = .ok (.aload_n 0, 1) := dk_42 (dk_at dksX0_leadsIn_0 9 rfl rfl)
theorem dX0_leadsIn_10 : decode cX0_leadsIn 10 = .ok (.iload_n 2, 1) := dk_28 (dk_at dksX0_leadsIn_0 10 rfl rfl)
theorem dX0_leadsIn_11 : decode cX0_leadsIn 11 = .ok (.iload_n 3, 1) := dk_29 (dk_at dksX0_leadsIn_0 11 rfl rfl)
theorem dX0_leadsIn_12 : decode cX0_leadsIn 12 = .ok (.iload 6, 2) := dk_21 6 (dk_at dksX0_leadsIn_0 12 rfl rfl)
theorem dX0_leadsIn_14 : decode cX0_leadsIn 14 = .ok (.invokevirtual 214, 3) := dk_182 0 214 (dk_at dksX0_leadsIn_0 14 rfl rfl)
theorem dX0_leadsIn_17 : decode cX0_leadsIn 17 = .ok (.istore 7, 2) := dk_54 7 (dk_at dksX0_leadsIn_0 17 rfl rfl)
theorem dX0_leadsIn_19 : decode cX0_leadsIn 19 = .ok (.iload_n 2, 1) := dk_28 (dk_at dksX0_leadsIn_0 19 rfl rfl)
theorem dX0_leadsIn_20 : decode cX0_leadsIn 20 = .ok (.ifCond .eq 9, 3) := dk_153 0 9 (dk_at dksX0_leadsIn_0 20 rfl rfl)
theorem dX0_leadsIn_23 : decode cX0_leadsIn 23 = .ok (.iload 7, 2) := dk_21 7 (dk_at dksX0_leadsIn_1 0 rfl rfl)
theorem dX0_leadsIn_25 : decode cX0_leadsIn 25 = .ok (.iconst (-1), 1) := dk_2 (dk_at dksX0_leadsIn_1 2 rfl rfl)
theorem dX0_leadsIn_26 : decode cX0_leadsIn 26 = .ok (.if_icmp .ne 6, 3) := dk_160 0 6 (dk_at dksX0_leadsIn_1 3 rfl rfl)
theorem dX0_leadsIn_29 : decode cX0_leadsIn 29 = .ok (.iload 7, 2) := dk_21 7 (dk_at dksX0_leadsIn_1 6 rfl rfl)
theorem dX0_leadsIn_31 : decode cX0_leadsIn 31 = .ok (.ireturn, 1) := dk_172 (dk_at dksX0_leadsIn_1 8 rfl rfl)
theorem dX0_leadsIn_32 : decode cX0_leadsIn 32 = .ok (.iconst 4, 1) := dk_7 (dk_at dksX0_leadsIn_1 9 rfl rfl)
theorem dX0_leadsIn_33 : decode cX0_leadsIn 33 = .ok (.bipush 6, 2) := dk_16 6 (dk_at dksX0_leadsIn_1 10 rfl rfl)
theorem dX0_leadsIn_35 : decode cX0_leadsIn 35 = .ok (.iload 5, 2) := dk_21 5 (dk_at dksX0_leadsIn_1 12 rfl rfl)
theorem dX0_leadsIn_37 : decode cX0_leadsIn 37 = .ok (.imul, 1) := dk_104 (dk_at dksX0_leadsIn_1 14 rfl rfl)
theorem dX0_leadsIn_38 : decode cX0_leadsIn 38 = .ok (.iload 4, 2) := dk_21 4 (dk_at dksX0_leadsIn_1 15 rfl rfl)
theorem dX0_leadsIn_40 : decode cX0_leadsIn 40 = .ok (.iadd, 1) := dk_96 (dk_at dksX0_leadsIn_1 17 rfl rfl)
theorem dX0_leadsIn_41 : decode cX0_leadsIn 41 = .ok (.imul, 1) := dk_104 (dk_at dksX0_leadsIn_1 18 rfl rfl)
theorem dX0_leadsIn_42 : decode cX0_leadsIn 42 = .ok (.aload_n 0, 1) := dk_42 (dk_at dksX0_leadsIn_1 19 rfl rfl)
theorem dX0_leadsIn_43 : decode cX0_leadsIn 43 = .ok (.getfield 1, 3) := dk_180 0 1 (dk_at dksX0_leadsIn_1 20 rfl rfl)
theorem dX0_leadsIn_46 : decode cX0_leadsIn 46 = .ok (.iload_n 2, 1) := dk_28 (dk_at dksX0_leadsIn_1 23 rfl rfl)
theorem dX0_leadsIn_47 : decode cX0_leadsIn 47 = .ok (.aaload, 1) := dk_50 (dk_at dksX0_leadsIn_2 0 rfl rfl)
theorem dX0_leadsIn_48 : decode cX0_leadsIn 48 = .ok (.iload_n 3, 1) := dk_29 (dk_at dksX0_leadsIn_2 1 rfl rfl)
theorem dX0_leadsIn_49 : decode cX0_leadsIn 49 = .ok (.iload 6, 2) := dk_21 6 (dk_at dksX0_leadsIn_2 2 rfl rfl)
theorem dX0_leadsIn_51 : decode cX0_leadsIn 51 = .ok (.invokevirtual 7, 3) := dk_182 0 7 (dk_at dksX0_leadsIn_2 4 rfl rfl)
theorem dX0_leadsIn_54 : decode cX0_leadsIn 54 = .ok (.iadd, 1) := dk_96 (dk_at dksX0_leadsIn_2 7 rfl rfl)
theorem dX0_leadsIn_55 : decode cX0_leadsIn 55 = .ok (.istore 8, 2) := dk_54 8 (dk_at dksX0_leadsIn_2 8 rfl rfl)
theorem dX0_leadsIn_57 : decode cX0_leadsIn 57 = .ok (.aload_n 0, 1) := dk_42 (dk_at dksX0_leadsIn_2 10 rfl rfl)
theorem dX0_leadsIn_58 : decode cX0_leadsIn 58 = .ok (.getfield 1, 3) := dk_180 0 1 (dk_at dksX0_leadsIn_2 11 rfl rfl)
theorem dX0_leadsIn_61 : decode cX0_leadsIn 61 = .ok (.iload_n 2, 1) := dk_28 (dk_at dksX0_leadsIn_2 14 rfl rfl)
theorem dX0_leadsIn_62 : decode cX0_leadsIn 62 = .ok (.aaload, 1) := dk_50 (dk_at dksX0_leadsIn_2 15 rfl rfl)
theorem dX0_leadsIn_63 : decode cX0_leadsIn 63 = .ok (.invokevirtual 13, 3) := dk_182 0 13 (dk_at dksX0_leadsIn_2 16 rfl rfl)
theorem dX0_leadsIn_66 : decode cX0_leadsIn 66 = .ok (.ifCond .eq 13, 3) := dk_153 0 13 (dk_at dksX0_leadsIn_2 19 rfl rfl)
theorem dX0_leadsIn_69 : decode cX0_leadsIn 69 = .ok (.aload_n 0, 1) := dk_42 (dk_at dksX0_leadsIn_2 22 rfl rfl)
theorem dX0_leadsIn_70 : decode cX0_leadsIn 70 = .ok (.getfield 79, 3) := dk_180 0 79 (dk_at dksX0_leadsIn_3 0 rfl rfl)
theorem dX0_leadsIn_73 : decode cX0_leadsIn 73 = .ok (.iload 8, 2) := dk_21 8 (dk_at dksX0_leadsIn_3 3 rfl rfl)
theorem dX0_leadsIn_75 : decode cX0_leadsIn 75 = .ok (.iaload, 1) := dk_46 (dk_at dksX0_leadsIn_3 5 rfl rfl)
theorem dX0_leadsIn_76 : decode cX0_leadsIn 76 = .ok (.goto 16, 3) := dk_167 0 16 (dk_at dksX0_leadsIn_3 6 rfl rfl)
theorem dX0_leadsIn_79 : decode cX0_leadsIn 79 = .ok (.aload_n 0, 1) := dk_42 (dk_at dksX0_leadsIn_3 9 rfl rfl)
theorem dX0_leadsIn_80 : decode cX0_leadsIn 80 = .ok (.getfield 83, 3) := dk_180 0 83 (dk_at dksX0_leadsIn_3 10 rfl rfl)
theorem dX0_leadsIn_83 : decode cX0_leadsIn 83 = .ok (.iconst 2, 1) := dk_5 (dk_at dksX0_leadsIn_3 13 rfl rfl)
theorem dX0_leadsIn_84 : decode cX0_leadsIn 84 = .ok (.iload 8, 2) := dk_21 8 (dk_at dksX0_leadsIn_3 14 rfl rfl)
theorem dX0_leadsIn_86 : decode cX0_leadsIn 86 = .ok (.imul, 1) := dk_104 (dk_at dksX0_leadsIn_3 16 rfl rfl)
theorem dX0_leadsIn_87 : decode cX0_leadsIn 87 = .ok (.iload_n 3, 1) := dk_29 (dk_at dksX0_leadsIn_3 17 rfl rfl)
theorem dX0_leadsIn_88 : decode cX0_leadsIn 88 = .ok (.iconst 2, 1) := dk_5 (dk_at dksX0_leadsIn_3 18 rfl rfl)
theorem dX0_leadsIn_89 : decode cX0_leadsIn 89 = .ok (.irem, 1) := dk_112 (dk_at dksX0_leadsIn_3 19 rfl rfl)
theorem dX0_leadsIn_90 : decode cX0_leadsIn 90 = .ok (.iadd, 1) := dk_96 (dk_at dksX0_leadsIn_3 20 rfl rfl)
theorem dX0_leadsIn_91 : decode cX0_leadsIn 91 = .ok (.iaload, 1) := dk_46 (dk_at dksX0_leadsIn_3 21 rfl rfl)
theorem dX0_leadsIn_92 : decode cX0_leadsIn 92 = .ok (.iload_n 1, 1) := dk_27 (dk_at dksX0_leadsIn_3 22 rfl rfl)
theorem dX0_leadsIn_93 : decode cX0_leadsIn 93 = .ok (.invokestatic 188, 3) := dk_184 0 188 (dk_at dksX0_leadsIn_4 0 rfl rfl)
theorem dX0_leadsIn_96 : decode cX0_leadsIn 96 = .ok (.ifCond .eq 8, 3) := dk_153 0 8 (dk_at dksX0_leadsIn_4 3 rfl rfl)
theorem dX0_leadsIn_99 : decode cX0_leadsIn 99 = .ok (.iload 7, 2) := dk_21 7 (dk_at dksX0_leadsIn_4 6 rfl rfl)
theorem dX0_leadsIn_101 : decode cX0_leadsIn 101 = .ok (.goto 4, 3) := dk_167 0 4 (dk_at dksX0_leadsIn_4 8 rfl rfl)
theorem dX0_leadsIn_104 : decode cX0_leadsIn 104 = .ok (.iconst (-1), 1) := dk_2 (dk_at dksX0_leadsIn_4 11 rfl rfl)
theorem dX0_leadsIn_105 : decode cX0_leadsIn 105 = .ok (.ireturn, 1) := dk_172 (dk_at dksX0_leadsIn_4 12 rfl rfl)
def dkwX0_way_1 : List UInt8 := [182, 1, 60, 162, 0, 12, 42, 180, 0, 92, 29, 46, 167, 0, 4, 2, 172]
abbrev dktX0_way_1 : List UInt8 := dkwX0_way_1 ++ []
def dkwX0_way_0 : List UInt8 := [42, 27, 28, 182, 1, 47, 154, 0, 6, 16, 254, 172, 29, 156, 0, 6, 16, 253, 172, 29, 42, 27, 28]
abbrev dktX0_way_0 : List UInt8 := dkwX0_way_0 ++ dktX0_way_1
theorem dksX0_way_0 : cX0_way.data.toList.drop 0 = dktX0_way_0 := by decide +kernel
theorem dksX0_way_1 : cX0_way.data.toList.drop 23 = dktX0_way_1 := dk_seg dksX0_way_0 23 rfl rfl
theorem dX0_way_0 : decode cX0_way 0 = .ok (.aload_n 0, 1) := dk_42 (dk_at dksX0_way_0 0 rfl rfl)
theorem dX0_way_1 : decode cX0_way 1 = .ok (.iload_n 1, 1) := dk_27 (dk_at dksX0_way_0 1 rfl rfl)
theorem dX0_way_2 : decode cX0_way 2 = .ok (.iload_n 2, 1) := dk_28 (dk_at dksX0_way_0 2 rfl rfl)
theorem dX0_way_3 : decode cX0_way 3 = .ok (.invokevirtual 303, 3) := dk_182 1 47 (dk_at dksX0_way_0 3 rfl rfl)
theorem dX0_way_6 : decode cX0_way 6 = .ok (.ifCond .ne 6, 3) := dk_154 0 6 (dk_at dksX0_way_0 6 rfl rfl)
theorem dX0_way_9 : decode cX0_way 9 = .ok (.bipush (-2), 2) := dk_16 254 (dk_at dksX0_way_0 9 rfl rfl)
theorem dX0_way_11 : decode cX0_way 11 = .ok (.ireturn, 1) := dk_172 (dk_at dksX0_way_0 11 rfl rfl)
theorem dX0_way_12 : decode cX0_way 12 = .ok (.iload_n 3, 1) := dk_29 (dk_at dksX0_way_0 12 rfl rfl)
theorem dX0_way_13 : decode cX0_way 13 = .ok (.ifCond .ge 6, 3) := dk_156 0 6 (dk_at dksX0_way_0 13 rfl rfl)
theorem dX0_way_16 : decode cX0_way 16 = .ok (.bipush (-3), 2) := dk_16 253 (dk_at dksX0_way_0 16 rfl rfl)
theorem dX0_way_18 : decode cX0_way 18 = .ok (.ireturn, 1) := dk_172 (dk_at dksX0_way_0 18 rfl rfl)
theorem dX0_way_19 : decode cX0_way 19 = .ok (.iload_n 3, 1) := dk_29 (dk_at dksX0_way_0 19 rfl rfl)
theorem dX0_way_20 : decode cX0_way 20 = .ok (.aload_n 0, 1) := dk_42 (dk_at dksX0_way_0 20 rfl rfl)
theorem dX0_way_21 : decode cX0_way 21 = .ok (.iload_n 1, 1) := dk_27 (dk_at dksX0_way_0 21 rfl rfl)
theorem dX0_way_22 : decode cX0_way 22 = .ok (.iload_n 2, 1) := dk_28 (dk_at dksX0_way_0 22 rfl rfl)
theorem dX0_way_23 : decode cX0_way 23 = .ok (.invokevirtual 316, 3) := dk_182 1 60 (dk_at dksX0_way_1 0 rfl rfl)
theorem dX0_way_26 : decode cX0_way 26 = .ok (.if_icmp .ge 12, 3) := dk_162 0 12 (dk_at dksX0_way_1 3 rfl rfl)
theorem dX0_way_29 : decode cX0_way 29 = .ok (.aload_n 0, 1) := dk_42 (dk_at dksX0_way_1 6 rfl rfl)
theorem dX0_way_30 : decode cX0_way 30 = .ok (.getfield 92, 3) := dk_180 0 92 (dk_at dksX0_way_1 7 rfl rfl)
theorem dX0_way_33 : decode cX0_way 33 = .ok (.iload_n 3, 1) := dk_29 (dk_at dksX0_way_1 10 rfl rfl)
theorem dX0_way_34 : decode cX0_way 34 = .ok (.iaload, 1) := dk_46 (dk_at dksX0_way_1 11 rfl rfl)
theorem dX0_way_35 : decode cX0_way 35 = .ok (.goto 4, 3) := dk_167 0 4 (dk_at dksX0_way_1 12 rfl rfl)
theorem dX0_way_38 : decode cX0_way 38 = .ok (.iconst (-1), 1) := dk_2 (dk_at dksX0_way_1 15 rfl rfl)
theorem dX0_way_39 : decode cX0_way 39 = .ok (.ireturn, 1) := dk_172 (dk_at dksX0_way_1 16 rfl rfl)
def dkwX0_laysWay_9 : List UInt8 := [180, 0, 92, 21, 5, 21, 6, 79, 132, 5, 1, 167, 255, 174, 29, 172]
abbrev dktX0_laysWay_9 : List UInt8 := dkwX0_laysWay_9 ++ []
def dkwX0_laysWay_8 : List UInt8 := [42, 27, 21, 6, 21, 4, 42, 21, 5, 182, 1, 24, 42, 21, 5, 182, 1, 27, 182, 1, 30, 54, 4, 42]
abbrev dktX0_laysWay_8 : List UInt8 := dkwX0_laysWay_8 ++ dktX0_laysWay_9
def dkwX0_laysWay_7 : List UInt8 := [21, 5, 182, 1, 27, 182, 1, 30, 21, 5, 4, 96, 182, 1, 57, 154, 0, 9, 132, 6, 1, 167, 255, 221]
abbrev dktX0_laysWay_7 : List UInt8 := dkwX0_laysWay_7 ++ dktX0_laysWay_8
def dkwX0_laysWay_6 : List UInt8 := [21, 5, 29, 162, 0, 82, 3, 54, 6, 42, 42, 27, 21, 6, 21, 4, 42, 21, 5, 182, 1, 24, 42]
abbrev dktX0_laysWay_6 : List UInt8 := dkwX0_laysWay_6 ++ dktX0_laysWay_7
def dkwX0_laysWay_5 : List UInt8 := [167, 255, 191, 132, 4, 255, 167, 255, 169, 42, 180, 0, 60, 180, 0, 173, 27, 46, 54, 4, 3, 54, 5]
abbrev dktX0_laysWay_5 : List UInt8 := dkwX0_laysWay_5 ++ dktX0_laysWay_6
def dkwX0_laysWay_4 : List UInt8 := [21, 4, 4, 96, 46, 126, 153, 0, 10, 4, 21, 5, 120, 167, 0, 4, 3, 128, 79, 132, 5, 1]
abbrev dktX0_laysWay_4 : List UInt8 := dkwX0_laysWay_4 ++ dktX0_laysWay_5
def dkwX0_laysWay_3 : List UInt8 := [21, 5, 133, 182, 1, 37, 153, 0, 34, 42, 27, 4, 21, 5, 120, 21, 4, 182, 1, 34, 42, 180, 0, 89]
abbrev dktX0_laysWay_3 : List UInt8 := dkwX0_laysWay_3 ++ dktX0_laysWay_4
def dkwX0_laysWay_2 : List UInt8 := [3, 79, 3, 54, 5, 21, 5, 16, 9, 162, 0, 64, 42, 180, 0, 89, 21, 4, 92, 46, 42, 180, 0, 17]
abbrev dktX0_laysWay_2 : List UInt8 := dkwX0_laysWay_2 ++ dktX0_laysWay_3
def dkwX0_laysWay_1 : List UInt8 := [180, 0, 89, 29, 4, 28, 120, 79, 29, 4, 100, 54, 4, 21, 4, 155, 0, 88, 42, 180, 0, 89, 21, 4]
abbrev dktX0_laysWay_1 : List UInt8 := dkwX0_laysWay_1 ++ dktX0_laysWay_2
def dkwX0_laysWay_0 : List UInt8 := [42, 182, 1, 50, 42, 27, 28, 3, 16, 60, 182, 1, 53, 62, 29, 2, 160, 0, 5, 2, 172, 42]
abbrev dktX0_laysWay_0 : List UInt8 := dkwX0_laysWay_0 ++ dktX0_laysWay_1
theorem dksX0_laysWay_0 : cX0_laysWay.data.toList.drop 0 = dktX0_laysWay_0 := by decide +kernel
theorem dksX0_laysWay_1 : cX0_laysWay.data.toList.drop 22 = dktX0_laysWay_1 := dk_seg dksX0_laysWay_0 22 rfl rfl
theorem dksX0_laysWay_2 : cX0_laysWay.data.toList.drop 46 = dktX0_laysWay_2 := dk_seg dksX0_laysWay_1 24 rfl rfl
theorem dksX0_laysWay_3 : cX0_laysWay.data.toList.drop 70 = dktX0_laysWay_3 := dk_seg dksX0_laysWay_2 24 rfl rfl
theorem dksX0_laysWay_4 : cX0_laysWay.data.toList.drop 94 = dktX0_laysWay_4 := dk_seg dksX0_laysWay_3 24 rfl rfl
theorem dksX0_laysWay_5 : cX0_laysWay.data.toList.drop 116 = dktX0_laysWay_5 := dk_seg dksX0_laysWay_4 22 rfl rfl
theorem dksX0_laysWay_6 : cX0_laysWay.data.toList.drop 139 = dktX0_laysWay_6 := dk_seg dksX0_laysWay_5 23 rfl rfl
theorem dksX0_laysWay_7 : cX0_laysWay.data.toList.drop 162 = dktX0_laysWay_7 := dk_seg dksX0_laysWay_6 23 rfl rfl
theorem dksX0_laysWay_8 : cX0_laysWay.data.toList.drop 186 = dktX0_laysWay_8 := dk_seg dksX0_laysWay_7 24 rfl rfl
theorem dksX0_laysWay_9 : cX0_laysWay.data.toList.drop 210 = dktX0_laysWay_9 := dk_seg dksX0_laysWay_8 24 rfl rfl
theorem dX0_laysWay_0 : decode cX0_laysWay 0 = .ok (.aload_n 0, 1) := dk_42 (dk_at dksX0_laysWay_0 0 rfl rfl)
theorem dX0_laysWay_1 : decode cX0_laysWay 1 = .ok (.invokevirtual 306, 3) := dk_182 1 50 (dk_at dksX0_laysWay_0 1 rfl rfl)
theorem dX0_laysWay_4 : decode cX0_laysWay 4 = .ok (.aload_n 0, 1) := dk_42 (dk_at dksX0_laysWay_0 4 rfl rfl)
theorem dX0_laysWay_5 : decode cX0_laysWay 5 = .ok (.iload_n 1, 1) := dk_27 (dk_at dksX0_laysWay_0 5 rfl rfl)
theorem dX0_laysWay_6 : decode cX0_laysWay 6 = .ok (.iload_n 2, 1) := dk_28 (dk_at dksX0_laysWay_0 6 rfl rfl)
theorem dX0_laysWay_7 : decode cX0_laysWay 7 = .ok (.iconst 0, 1) := dk_3 (dk_at dksX0_laysWay_0 7 rfl rfl)
theorem dX0_laysWay_8 : decode cX0_laysWay 8 = .ok (.bipush 60, 2) := dk_16 60 (dk_at dksX0_laysWay_0 8 rfl rfl)
theorem dX0_laysWay_10 : decode cX0_laysWay 10 = .ok (.invokevirtual 309, 3) := dk_182 1 53 (dk_at dksX0_laysWay_0 10 rfl rfl)
theorem dX0_laysWay_13 : decode cX0_laysWay 13 = .ok (.istore_n 3, 1) := dk_62 (dk_at dksX0_laysWay_0 13 rfl rfl)
theorem dX0_laysWay_14 : decode cX0_laysWay 14 = .ok (.iload_n 3, 1) := dk_29 (dk_at dksX0_laysWay_0 14 rfl rfl)
theorem dX0_laysWay_15 : decode cX0_laysWay 15 = .ok (.iconst (-1), 1) := dk_2 (dk_at dksX0_laysWay_0 15 rfl rfl)
theorem dX0_laysWay_16 : decode cX0_laysWay 16 = .ok (.if_icmp .ne 5, 3) := dk_160 0 5 (dk_at dksX0_laysWay_0 16 rfl rfl)
theorem dX0_laysWay_19 : decode cX0_laysWay 19 = .ok (.iconst (-1), 1) := dk_2 (dk_at dksX0_laysWay_0 19 rfl rfl)
theorem dX0_laysWay_20 : decode cX0_laysWay 20 = .ok (.ireturn, 1) := dk_172 (dk_at dksX0_laysWay_0 20 rfl rfl)
theorem dX0_laysWay_21 : decode cX0_laysWay 21 = .ok (.aload_n 0, 1) := dk_42 (dk_at dksX0_laysWay_0 21 rfl rfl)
theorem dX0_laysWay_22 : decode cX0_laysWay 22 = .ok (.getfield 89, 3) := dk_180 0 89 (dk_at dksX0_laysWay_1 0 rfl rfl)
theorem dX0_laysWay_25 : decode cX0_laysWay 25 = .ok (.iload_n 3, 1) := dk_29 (dk_at dksX0_laysWay_1 3 rfl rfl)
theorem dX0_laysWay_26 : decode cX0_laysWay 26 = .ok (.iconst 1, 1) := dk_4 (dk_at dksX0_laysWay_1 4 rfl rfl)
theorem dX0_laysWay_27 : decode cX0_laysWay 27 = .ok (.iload_n 2, 1) := dk_28 (dk_at dksX0_laysWay_1 5 rfl rfl)
theorem dX0_laysWay_28 : decode cX0_laysWay 28 = .ok (.ishl, 1) := dk_120 (dk_at dksX0_laysWay_1 6 rfl rfl)
theorem dX0_laysWay_29 : decode cX0_laysWay 29 = .ok (.iastore, 1) := dk_79 (dk_at dksX0_laysWay_1 7 rfl rfl)
theorem dX0_laysWay_30 : decode cX0_laysWay 30 = .ok (.iload_n 3, 1) := dk_29 (dk_at dksX0_laysWay_1 8 rfl rfl)
theorem dX0_laysWay_31 : decode cX0_laysWay 31 = .ok (.iconst 1, 1) := dk_4 (dk_at dksX0_laysWay_1 9 rfl rfl)
theorem dX0_laysWay_32 : decode cX0_laysWay 32 = .ok (.isub, 1) := dk_100 (dk_at dksX0_laysWay_1 10 rfl rfl)
theorem dX0_laysWay_33 : decode cX0_laysWay 33 = .ok (.istore 4, 2) := dk_54 4 (dk_at dksX0_laysWay_1 11 rfl rfl)
theorem dX0_laysWay_35 : decode cX0_laysWay 35 = .ok (.iload 4, 2) := dk_21 4 (dk_at dksX0_laysWay_1 13 rfl rfl)
theorem dX0_laysWay_37 : decode cX0_laysWay 37 = .ok (.ifCond .lt 88, 3) := dk_155 0 88 (dk_at dksX0_laysWay_1 15 rfl rfl)
theorem dX0_laysWay_40 : decode cX0_laysWay 40 = .ok (.aload_n 0, 1) := dk_42 (dk_at dksX0_laysWay_1 18 rfl rfl)
theorem dX0_laysWay_41 : decode cX0_laysWay 41 = .ok (.getfield 89, 3) := dk_180 0 89 (dk_at dksX0_laysWay_1 19 rfl rfl)
theorem dX0_laysWay_44 : decode cX0_laysWay 44 = .ok (.iload 4, 2) := dk_21 4 (dk_at dksX0_laysWay_1 22 rfl rfl)
theorem dX0_laysWay_46 : decode cX0_laysWay 46 = .ok (.iconst 0, 1) := dk_3 (dk_at dksX0_laysWay_2 0 rfl rfl)
theorem dX0_laysWay_47 : decode cX0_laysWay 47 = .ok (.iastore, 1) := dk_79 (dk_at dksX0_laysWay_2 1 rfl rfl)
theorem dX0_laysWay_48 : decode cX0_laysWay 48 = .ok (.iconst 0, 1) := dk_3 (dk_at dksX0_laysWay_2 2 rfl rfl)
theorem dX0_laysWay_49 : decode cX0_laysWay 49 = .ok (.istore 5, 2) := dk_54 5 (dk_at dksX0_laysWay_2 3 rfl rfl)
theorem dX0_laysWay_51 : decode cX0_laysWay 51 = .ok (.iload 5, 2) := dk_21 5 (dk_at dksX0_laysWay_2 5 rfl rfl)
theorem dX0_laysWay_53 : decode cX0_laysWay 53 = .ok (.bipush 9, 2) := dk_16 9 (dk_at dksX0_laysWay_2 7 rfl rfl)
theorem dX0_laysWay_55 : decode cX0_laysWay 55 = .ok (.if_icmp .ge 64, 3) := dk_162 0 64 (dk_at dksX0_laysWay_2 9 rfl rfl)
theorem dX0_laysWay_58 : decode cX0_laysWay 58 = .ok (.aload_n 0, 1) := dk_42 (dk_at dksX0_laysWay_2 12 rfl rfl)
theorem dX0_laysWay_59 : decode cX0_laysWay 59 = .ok (.getfield 89, 3) := dk_180 0 89 (dk_at dksX0_laysWay_2 13 rfl rfl)
theorem dX0_laysWay_62 : decode cX0_laysWay 62 = .ok (.iload 4, 2) := dk_21 4 (dk_at dksX0_laysWay_2 16 rfl rfl)
theorem dX0_laysWay_64 : decode cX0_laysWay 64 = .ok (.dup2, 1) := dk_92 (dk_at dksX0_laysWay_2 18 rfl rfl)
theorem dX0_laysWay_65 : decode cX0_laysWay 65 = .ok (.iaload, 1) := dk_46 (dk_at dksX0_laysWay_2 19 rfl rfl)
theorem dX0_laysWay_66 : decode cX0_laysWay 66 = .ok (.aload_n 0, 1) := dk_42 (dk_at dksX0_laysWay_2 20 rfl rfl)
theorem dX0_laysWay_67 : decode cX0_laysWay 67 = .ok (.getfield 17, 3) := dk_180 0 17 (dk_at dksX0_laysWay_2 21 rfl rfl)
theorem dX0_laysWay_70 : decode cX0_laysWay 70 = .ok (.iload 5, 2) := dk_21 5 (dk_at dksX0_laysWay_3 0 rfl rfl)
theorem dX0_laysWay_72 : decode cX0_laysWay 72 = .ok (.i2l, 1) := dk_133 (dk_at dksX0_laysWay_3 2 rfl rfl)
theorem dX0_laysWay_73 : decode cX0_laysWay 73 = .ok (.invokevirtual 293, 3) := dk_182 1 37 (dk_at dksX0_laysWay_3 3 rfl rfl)
theorem dX0_laysWay_76 : decode cX0_laysWay 76 = .ok (.ifCond .eq 34, 3) := dk_153 0 34 (dk_at dksX0_laysWay_3 6 rfl rfl)
theorem dX0_laysWay_79 : decode cX0_laysWay 79 = .ok (.aload_n 0, 1) := dk_42 (dk_at dksX0_laysWay_3 9 rfl rfl)
theorem dX0_laysWay_80 : decode cX0_laysWay 80 = .ok (.iload_n 1, 1) := dk_27 (dk_at dksX0_laysWay_3 10 rfl rfl)
theorem dX0_laysWay_81 : decode cX0_laysWay 81 = .ok (.iconst 1, 1) := dk_4 (dk_at dksX0_laysWay_3 11 rfl rfl)
theorem dX0_laysWay_82 : decode cX0_laysWay 82 = .ok (.iload 5, 2) := dk_21 5 (dk_at dksX0_laysWay_3 12 rfl rfl)
theorem dX0_laysWay_84 : decode cX0_laysWay 84 = .ok (.ishl, 1) := dk_120 (dk_at dksX0_laysWay_3 14 rfl rfl)
theorem dX0_laysWay_85 : decode cX0_laysWay 85 = .ok (.iload 4, 2) := dk_21 4 (dk_at dksX0_laysWay_3 15 rfl rfl)
theorem dX0_laysWay_87 : decode cX0_laysWay 87 = .ok (.invokevirtual 290, 3) := dk_182 1 34 (dk_at dksX0_laysWay_3 17 rfl rfl)
theorem dX0_laysWay_90 : decode cX0_laysWay 90 = .ok (.aload_n 0, 1) := dk_42 (dk_at dksX0_laysWay_3 20 rfl rfl)
theorem dX0_laysWay_91 : decode cX0_laysWay 91 = .ok (.getfield 89, 3) := dk_180 0 89 (dk_at dksX0_laysWay_3 21 rfl rfl)
theorem dX0_laysWay_94 : decode cX0_laysWay 94 = .ok (.iload 4, 2) := dk_21 4 (dk_at dksX0_laysWay_4 0 rfl rfl)
theorem dX0_laysWay_96 : decode cX0_laysWay 96 = .ok (.iconst 1, 1) := dk_4 (dk_at dksX0_laysWay_4 2 rfl rfl)
theorem dX0_laysWay_97 : decode cX0_laysWay 97 = .ok (.iadd, 1) := dk_96 (dk_at dksX0_laysWay_4 3 rfl rfl)
theorem dX0_laysWay_98 : decode cX0_laysWay 98 = .ok (.iaload, 1) := dk_46 (dk_at dksX0_laysWay_4 4 rfl rfl)
theorem dX0_laysWay_99 : decode cX0_laysWay 99 = .ok (.iand, 1) := dk_126 (dk_at dksX0_laysWay_4 5 rfl rfl)
theorem dX0_laysWay_100 : decode cX0_laysWay 100 = .ok (.ifCond .eq 10, 3) := dk_153 0 10 (dk_at dksX0_laysWay_4 6 rfl rfl)
theorem dX0_laysWay_103 : decode cX0_laysWay 103 = .ok (.iconst 1, 1) := dk_4 (dk_at dksX0_laysWay_4 9 rfl rfl)
theorem dX0_laysWay_104 : decode cX0_laysWay 104 = .ok (.iload 5, 2) := dk_21 5 (dk_at dksX0_laysWay_4 10 rfl rfl)
theorem dX0_laysWay_106 : decode cX0_laysWay 106 = .ok (.ishl, 1) := dk_120 (dk_at dksX0_laysWay_4 12 rfl rfl)
theorem dX0_laysWay_107 : decode cX0_laysWay 107 = .ok (.goto 4, 3) := dk_167 0 4 (dk_at dksX0_laysWay_4 13 rfl rfl)
theorem dX0_laysWay_110 : decode cX0_laysWay 110 = .ok (.iconst 0, 1) := dk_3 (dk_at dksX0_laysWay_4 16 rfl rfl)
theorem dX0_laysWay_111 : decode cX0_laysWay 111 = .ok (.ior, 1) := dk_128 (dk_at dksX0_laysWay_4 17 rfl rfl)
theorem dX0_laysWay_112 : decode cX0_laysWay 112 = .ok (.iastore, 1) := dk_79 (dk_at dksX0_laysWay_4 18 rfl rfl)
theorem dX0_laysWay_113 : decode cX0_laysWay 113 = .ok (.iinc 5 1, 3) := dk_132 5 1 (dk_at dksX0_laysWay_4 19 rfl rfl)
theorem dX0_laysWay_116 : decode cX0_laysWay 116 = .ok (.goto (-65), 3) := dk_167 255 191 (dk_at dksX0_laysWay_5 0 rfl rfl)
theorem dX0_laysWay_119 : decode cX0_laysWay 119 = .ok (.iinc 4 (-1), 3) := dk_132 4 255 (dk_at dksX0_laysWay_5 3 rfl rfl)
theorem dX0_laysWay_122 : decode cX0_laysWay 122 = .ok (.goto (-87), 3) := dk_167 255 169 (dk_at dksX0_laysWay_5 6 rfl rfl)
theorem dX0_laysWay_125 : decode cX0_laysWay 125 = .ok (.aload_n 0, 1) := dk_42 (dk_at dksX0_laysWay_5 9 rfl rfl)
theorem dX0_laysWay_126 : decode cX0_laysWay 126 = .ok (.getfield 60, 3) := dk_180 0 60 (dk_at dksX0_laysWay_5 10 rfl rfl)
theorem dX0_laysWay_129 : decode cX0_laysWay 129 = .ok (.getfield 173, 3) := dk_180 0 173 (dk_at dksX0_laysWay_5 13 rfl rfl)
theorem dX0_laysWay_132 : decode cX0_laysWay 132 = .ok (.iload_n 1, 1) := dk_27 (dk_at dksX0_laysWay_5 16 rfl rfl)
theorem dX0_laysWay_133 : decode cX0_laysWay 133 = .ok (.iaload, 1) := dk_46 (dk_at dksX0_laysWay_5 17 rfl rfl)
theorem dX0_laysWay_134 : decode cX0_laysWay 134 = .ok (.istore 4, 2) := dk_54 4 (dk_at dksX0_laysWay_5 18 rfl rfl)
theorem dX0_laysWay_136 : decode cX0_laysWay 136 = .ok (.iconst 0, 1) := dk_3 (dk_at dksX0_laysWay_5 20 rfl rfl)
theorem dX0_laysWay_137 : decode cX0_laysWay 137 = .ok (.istore 5, 2) := dk_54 5 (dk_at dksX0_laysWay_5 21 rfl rfl)
theorem dX0_laysWay_139 : decode cX0_laysWay 139 = .ok (.iload 5, 2) := dk_21 5 (dk_at dksX0_laysWay_6 0 rfl rfl)
theorem dX0_laysWay_141 : decode cX0_laysWay 141 = .ok (.iload_n 3, 1) := dk_29 (dk_at dksX0_laysWay_6 2 rfl rfl)
theorem dX0_laysWay_142 : decode cX0_laysWay 142 = .ok (.if_icmp .ge 82, 3) := dk_162 0 82 (dk_at dksX0_laysWay_6 3 rfl rfl)
theorem dX0_laysWay_145 : decode cX0_laysWay 145 = .ok (.iconst 0, 1) := dk_3 (dk_at dksX0_laysWay_6 6 rfl rfl)
theorem dX0_laysWay_146 : decode cX0_laysWay 146 = .ok (.istore 6, 2) := dk_54 6 (dk_at dksX0_laysWay_6 7 rfl rfl)
theorem dX0_laysWay_148 : decode cX0_laysWay 148 = .ok (.aload_n 0, 1) := dk_42 (dk_at dksX0_laysWay_6 9 rfl rfl)
theorem dX0_laysWay_149 : decode cX0_laysWay 149 = .ok (.aload_n 0, 1) := dk_42 (dk_at dksX0_laysWay_6 10 rfl rfl)
theorem dX0_laysWay_150 : decode cX0_laysWay 150 = .ok (.iload_n 1, 1) := dk_27 (dk_at dksX0_laysWay_6 11 rfl rfl)
theorem dX0_laysWay_151 : decode cX0_laysWay 151 = .ok (.iload 6, 2) := dk_21 6 (dk_at dksX0_laysWay_6 12 rfl rfl)
theorem dX0_laysWay_153 : decode cX0_laysWay 153 = .ok (.iload 4, 2) := dk_21 4 (dk_at dksX0_laysWay_6 14 rfl rfl)
theorem dX0_laysWay_155 : decode cX0_laysWay 155 = .ok (.aload_n 0, 1) := dk_42 (dk_at dksX0_laysWay_6 16 rfl rfl)
theorem dX0_laysWay_156 : decode cX0_laysWay 156 = .ok (.iload 5, 2) := dk_21 5 (dk_at dksX0_laysWay_6 17 rfl rfl)
theorem dX0_laysWay_158 : decode cX0_laysWay 158 = .ok (.invokevirtual 280, 3) := dk_182 1 24 (dk_at dksX0_laysWay_6 19 rfl rfl)
theorem dX0_laysWay_161 : decode cX0_laysWay 161 = .ok (.aload_n 0, 1) := dk_42 (dk_at dksX0_laysWay_6 22 rfl rfl)
theorem dX0_laysWay_162 : decode cX0_laysWay 162 = .ok (.iload 5, 2) := dk_21 5 (dk_at dksX0_laysWay_7 0 rfl rfl)
theorem dX0_laysWay_164 : decode cX0_laysWay 164 = .ok (.invokevirtual 283, 3) := dk_182 1 27 (dk_at dksX0_laysWay_7 2 rfl rfl)
theorem dX0_laysWay_167 : decode cX0_laysWay 167 = .ok (.invokevirtual 286, 3) := dk_182 1 30 (dk_at dksX0_laysWay_7 5 rfl rfl)
theorem dX0_laysWay_170 : decode cX0_laysWay 170 = .ok (.iload 5, 2) := dk_21 5 (dk_at dksX0_laysWay_7 8 rfl rfl)
theorem dX0_laysWay_172 : decode cX0_laysWay 172 = .ok (.iconst 1, 1) := dk_4 (dk_at dksX0_laysWay_7 10 rfl rfl)
theorem dX0_laysWay_173 : decode cX0_laysWay 173 = .ok (.iadd, 1) := dk_96 (dk_at dksX0_laysWay_7 11 rfl rfl)
theorem dX0_laysWay_174 : decode cX0_laysWay 174 = .ok (.invokevirtual 313, 3) := dk_182 1 57 (dk_at dksX0_laysWay_7 12 rfl rfl)
theorem dX0_laysWay_177 : decode cX0_laysWay 177 = .ok (.ifCond .ne 9, 3) := dk_154 0 9 (dk_at dksX0_laysWay_7 15 rfl rfl)
theorem dX0_laysWay_180 : decode cX0_laysWay 180 = .ok (.iinc 6 1, 3) := dk_132 6 1 (dk_at dksX0_laysWay_7 18 rfl rfl)
theorem dX0_laysWay_183 : decode cX0_laysWay 183 = .ok (.goto (-35), 3) := dk_167 255 221 (dk_at dksX0_laysWay_7 21 rfl rfl)
theorem dX0_laysWay_186 : decode cX0_laysWay 186 = .ok (.aload_n 0, 1) := dk_42 (dk_at dksX0_laysWay_8 0 rfl rfl)
theorem dX0_laysWay_187 : decode cX0_laysWay 187 = .ok (.iload_n 1, 1) := dk_27 (dk_at dksX0_laysWay_8 1 rfl rfl)
theorem dX0_laysWay_188 : decode cX0_laysWay 188 = .ok (.iload 6, 2) := dk_21 6 (dk_at dksX0_laysWay_8 2 rfl rfl)
theorem dX0_laysWay_190 : decode cX0_laysWay 190 = .ok (.iload 4, 2) := dk_21 4 (dk_at dksX0_laysWay_8 4 rfl rfl)
theorem dX0_laysWay_192 : decode cX0_laysWay 192 = .ok (.aload_n 0, 1) := dk_42 (dk_at dksX0_laysWay_8 6 rfl rfl)
theorem dX0_laysWay_193 : decode cX0_laysWay 193 = .ok (.iload 5, 2) := dk_21 5 (dk_at dksX0_laysWay_8 7 rfl rfl)
theorem dX0_laysWay_195 : decode cX0_laysWay 195 = .ok (.invokevirtual 280, 3) := dk_182 1 24 (dk_at dksX0_laysWay_8 9 rfl rfl)
theorem dX0_laysWay_198 : decode cX0_laysWay 198 = .ok (.aload_n 0, 1) := dk_42 (dk_at dksX0_laysWay_8 12 rfl rfl)
theorem dX0_laysWay_199 : decode cX0_laysWay 199 = .ok (.iload 5, 2) := dk_21 5 (dk_at dksX0_laysWay_8 13 rfl rfl)
theorem dX0_laysWay_201 : decode cX0_laysWay 201 = .ok (.invokevirtual 283, 3) := dk_182 1 27 (dk_at dksX0_laysWay_8 15 rfl rfl)
theorem dX0_laysWay_204 : decode cX0_laysWay 204 = .ok (.invokevirtual 286, 3) := dk_182 1 30 (dk_at dksX0_laysWay_8 18 rfl rfl)
theorem dX0_laysWay_207 : decode cX0_laysWay 207 = .ok (.istore 4, 2) := dk_54 4 (dk_at dksX0_laysWay_8 21 rfl rfl)
theorem dX0_laysWay_209 : decode cX0_laysWay 209 = .ok (.aload_n 0, 1) := dk_42 (dk_at dksX0_laysWay_8 23 rfl rfl)
theorem dX0_laysWay_210 : decode cX0_laysWay 210 = .ok (.getfield 92, 3) := dk_180 0 92 (dk_at dksX0_laysWay_9 0 rfl rfl)
theorem dX0_laysWay_213 : decode cX0_laysWay 213 = .ok (.iload 5, 2) := dk_21 5 (dk_at dksX0_laysWay_9 3 rfl rfl)
theorem dX0_laysWay_215 : decode cX0_laysWay 215 = .ok (.iload 6, 2) := dk_21 6 (dk_at dksX0_laysWay_9 5 rfl rfl)
theorem dX0_laysWay_217 : decode cX0_laysWay 217 = .ok (.iastore, 1) := dk_79 (dk_at dksX0_laysWay_9 7 rfl rfl)
theorem dX0_laysWay_218 : decode cX0_laysWay 218 = .ok (.iinc 5 1, 3) := dk_132 5 1 (dk_at dksX0_laysWay_9 8 rfl rfl)
theorem dX0_laysWay_221 : decode cX0_laysWay 221 = .ok (.goto (-82), 3) := dk_167 255 174 (dk_at dksX0_laysWay_9 11 rfl rfl)
theorem dX0_laysWay_224 : decode cX0_laysWay 224 = .ok (.iload_n 3, 1) := dk_29 (dk_at dksX0_laysWay_9 14 rfl rfl)
theorem dX0_laysWay_225 : decode cX0_laysWay 225 = .ok (.ireturn, 1) := dk_172 (dk_at dksX0_laysWay_9 15 rfl rfl)
def dkwX0_isGood_0 : List UInt8 := [27, 2, 159, 0, 20, 42, 180, 0, 89, 28, 46, 27, 184, 0, 188, 153, 0, 7, 4, 167, 0, 4, 3, 172]
abbrev dktX0_isGood_0 : List UInt8 := dkwX0_isGood_0 ++ []
theorem dksX0_isGood_0 : cX0_isGood.data.toList.drop 0 = dktX0_isGood_0 := by decide +kernel
theorem dX0_isGood_0 : decode cX0_isGood 0 = .ok (.iload_n 1, 1) := dk_27 (dk_at dksX0_isGood_0 0 rfl rfl)
theorem dX0_isGood_1 : decode cX0_isGood 1 = .ok (.iconst (-1), 1) := dk_2 (dk_at dksX0_isGood_0 1 rfl rfl)
theorem dX0_isGood_2 : decode cX0_isGood 2 = .ok (.if_icmp .eq 20, 3) := dk_159 0 20 (dk_at dksX0_isGood_0 2 rfl rfl)
theorem dX0_isGood_5 : decode cX0_isGood 5 = .ok (.aload_n 0, 1) := dk_42 (dk_at dksX0_isGood_0 5 rfl rfl)
theorem dX0_isGood_6 : decode cX0_isGood 6 = .ok (.getfield 89, 3) := dk_180 0 89 (dk_at dksX0_isGood_0 6 rfl rfl)
theorem dX0_isGood_9 : decode cX0_isGood 9 = .ok (.iload_n 2, 1) := dk_28 (dk_at dksX0_isGood_0 9 rfl rfl)
theorem dX0_isGood_10 : decode cX0_isGood 10 = .ok (.iaload, 1) := dk_46 (dk_at dksX0_isGood_0 10 rfl rfl)
theorem dX0_isGood_11 : decode cX0_isGood 11 = .ok (.iload_n 1, 1) := dk_27 (dk_at dksX0_isGood_0 11 rfl rfl)
theorem dX0_isGood_12 : decode cX0_isGood 12 = .ok (.invokestatic 188, 3) := dk_184 0 188 (dk_at dksX0_isGood_0 12 rfl rfl)
theorem dX0_isGood_15 : decode cX0_isGood 15 = .ok (.ifCond .eq 7, 3) := dk_153 0 7 (dk_at dksX0_isGood_0 15 rfl rfl)
theorem dX0_isGood_18 : decode cX0_isGood 18 = .ok (.iconst 1, 1) := dk_4 (dk_at dksX0_isGood_0 18 rfl rfl)
theorem dX0_isGood_19 : decode cX0_isGood 19 = .ok (.goto 4, 3) := dk_167 0 4 (dk_at dksX0_isGood_0 19 rfl rfl)
theorem dX0_isGood_22 : decode cX0_isGood 22 = .ok (.iconst 0, 1) := dk_3 (dk_at dksX0_isGood_0 22 rfl rfl)
theorem dX0_isGood_23 : decode cX0_isGood 23 = .ok (.ireturn, 1) := dk_172 (dk_at dksX0_isGood_0 23 rfl rfl)
def dkwX0_ways_9 : List UInt8 := [42, 180, 0, 95, 28, 47, 173]
abbrev dktX0_ways_9 : List UInt8 := dkwX0_ways_9 ++ []
def dkwX0_ways_8 : List UInt8 := [167, 255, 186, 42, 180, 0, 99, 3, 42, 180, 0, 95, 3, 16, 9, 184, 1, 18, 132, 4, 1, 167, 255, 132]
abbrev dktX0_ways_8 : List UInt8 := dkwX0_ways_8 ++ dktX0_ways_9
def dkwX0_ways_7 : List UInt8 := [182, 1, 30, 42, 180, 0, 95, 21, 5, 47, 182, 1, 69, 132, 6, 1, 167, 255, 202, 132, 5, 1]
abbrev dktX0_ways_7 : List UInt8 := dkwX0_ways_7 ++ dktX0_ways_8
def dkwX0_ways_6 : List UInt8 := [158, 0, 41, 42, 42, 27, 21, 6, 21, 5, 42, 21, 4, 182, 1, 24, 42, 21, 4, 182, 1, 27]
abbrev dktX0_ways_6 : List UInt8 := dkwX0_ways_6 ++ dktX0_ways_7
def dkwX0_ways_5 : List UInt8 := [162, 0, 69, 3, 54, 6, 21, 6, 16, 7, 162, 0, 53, 42, 180, 0, 95, 21, 5, 47, 9, 148]
abbrev dktX0_ways_5 : List UInt8 := dkwX0_ways_5 ++ dktX0_ways_6
def dkwX0_ways_4 : List UInt8 := [162, 0, 17, 42, 180, 0, 99, 21, 5, 9, 80, 132, 5, 1, 167, 255, 238, 3, 54, 5, 21, 5, 16, 9]
abbrev dktX0_ways_4 : List UInt8 := dkwX0_ways_4 ++ dktX0_ways_5
def dkwX0_ways_3 : List UInt8 := [80, 132, 4, 1, 167, 255, 220, 3, 54, 4, 21, 4, 29, 162, 0, 124, 3, 54, 5, 21, 5, 16, 9]
abbrev dktX0_ways_3 : List UInt8 := dkwX0_ways_3 ++ dktX0_ways_4
def dkwX0_ways_2 : List UInt8 := [180, 0, 95, 21, 4, 21, 4, 42, 180, 0, 60, 180, 0, 173, 27, 46, 160, 0, 7, 10, 167, 0, 4, 9]
abbrev dktX0_ways_2 : List UInt8 := dkwX0_ways_2 ++ dktX0_ways_3
def dkwX0_ways_1 : List UInt8 := [154, 0, 7, 20, 1, 67, 173, 42, 182, 1, 50, 3, 54, 4, 21, 4, 16, 9, 162, 0, 35, 42]
abbrev dktX0_ways_1 : List UInt8 := dkwX0_ways_1 ++ dktX0_ways_2
def dkwX0_ways_0 : List UInt8 := [42, 27, 28, 182, 1, 47, 154, 0, 7, 20, 1, 63, 173, 29, 133, 9, 20, 1, 65, 184, 0, 132]
abbrev dktX0_ways_0 : List UInt8 := dkwX0_ways_0 ++ dktX0_ways_1
theorem dksX0_ways_0 : cX0_ways.data.toList.drop 0 = dktX0_ways_0 := by decide +kernel
theorem dksX0_ways_1 : cX0_ways.data.toList.drop 22 = dktX0_ways_1 := dk_seg dksX0_ways_0 22 rfl rfl
theorem dksX0_ways_2 : cX0_ways.data.toList.drop 44 = dktX0_ways_2 := dk_seg dksX0_ways_1 22 rfl rfl
theorem dksX0_ways_3 : cX0_ways.data.toList.drop 68 = dktX0_ways_3 := dk_seg dksX0_ways_2 24 rfl rfl
theorem dksX0_ways_4 : cX0_ways.data.toList.drop 91 = dktX0_ways_4 := dk_seg dksX0_ways_3 23 rfl rfl
theorem dksX0_ways_5 : cX0_ways.data.toList.drop 115 = dktX0_ways_5 := dk_seg dksX0_ways_4 24 rfl rfl
theorem dksX0_ways_6 : cX0_ways.data.toList.drop 137 = dktX0_ways_6 := dk_seg dksX0_ways_5 22 rfl rfl
theorem dksX0_ways_7 : cX0_ways.data.toList.drop 159 = dktX0_ways_7 := dk_seg dksX0_ways_6 22 rfl rfl
theorem dksX0_ways_8 : cX0_ways.data.toList.drop 181 = dktX0_ways_8 := dk_seg dksX0_ways_7 22 rfl rfl
theorem dksX0_ways_9 : cX0_ways.data.toList.drop 205 = dktX0_ways_9 := dk_seg dksX0_ways_8 24 rfl rfl
theorem dX0_ways_0 : decode cX0_ways 0 = .ok (.aload_n 0, 1) := dk_42 (dk_at dksX0_ways_0 0 rfl rfl)
theorem dX0_ways_1 : decode cX0_ways 1 = .ok (.iload_n 1, 1) := dk_27 (dk_at dksX0_ways_0 1 rfl rfl)
theorem dX0_ways_2 : decode cX0_ways 2 = .ok (.iload_n 2, 1) := dk_28 (dk_at dksX0_ways_0 2 rfl rfl)
theorem dX0_ways_3 : decode cX0_ways 3 = .ok (.invokevirtual 303, 3) := dk_182 1 47 (dk_at dksX0_ways_0 3 rfl rfl)
theorem dX0_ways_6 : decode cX0_ways 6 = .ok (.ifCond .ne 7, 3) := dk_154 0 7 (dk_at dksX0_ways_0 6 rfl rfl)
theorem dX0_ways_9 : decode cX0_ways 9 = .ok (.ldc2_w 319, 3) := dk_20 1 63 (dk_at dksX0_ways_0 9 rfl rfl)
theorem dX0_ways_12 : decode cX0_ways 12 = .ok (.lreturn, 1) := dk_173 (dk_at dksX0_ways_0 12 rfl rfl)
theorem dX0_ways_13 : decode cX0_ways 13 = .ok (.iload_n 3, 1) := dk_29 (dk_at dksX0_ways_0 13 rfl rfl)
theorem dX0_ways_14 : decode cX0_ways 14 = .ok (.i2l, 1) := dk_133 (dk_at dksX0_ways_0 14 rfl rfl)
theorem dX0_ways_15 : decode cX0_ways 15 = .ok (.lconst 0, 1) := dk_9 (dk_at dksX0_ways_0 15 rfl rfl)
theorem dX0_ways_16 : decode cX0_ways 16 = .ok (.ldc2_w 321, 3) := dk_20 1 65 (dk_at dksX0_ways_0 16 rfl rfl)
theorem dX0_ways_19 : decode cX0_ways 19 = .ok (.invokestatic 132, 3) := dk_184 0 132 (dk_at dksX0_ways_0 19 rfl rfl)
theorem dX0_ways_22 : decode cX0_ways 22 = .ok (.ifCond .ne 7, 3) := dk_154 0 7 (dk_at dksX0_ways_1 0 rfl rfl)
theorem dX0_ways_25 : decode cX0_ways 25 = .ok (.ldc2_w 323, 3) := dk_20 1 67 (dk_at dksX0_ways_1 3 rfl rfl)
theorem dX0_ways_28 : decode cX0_ways 28 = .ok (.lreturn, 1) := dk_173 (dk_at dksX0_ways_1 6 rfl rfl)
theorem dX0_ways_29 : decode cX0_ways 29 = .ok (.aload_n 0, 1) := dk_42 (dk_at dksX0_ways_1 7 rfl rfl)
theorem dX0_ways_30 : decode cX0_ways 30 = .ok (.invokevirtual 306, 3) := dk_182 1 50 (dk_at dksX0_ways_1 8 rfl rfl)
theorem dX0_ways_33 : decode cX0_ways 33 = .ok (.iconst 0, 1) := dk_3 (dk_at dksX0_ways_1 11 rfl rfl)
theorem dX0_ways_34 : decode cX0_ways 34 = .ok (.istore 4, 2) := dk_54 4 (dk_at dksX0_ways_1 12 rfl rfl)
theorem dX0_ways_36 : decode cX0_ways 36 = .ok (.iload 4, 2) := dk_21 4 (dk_at dksX0_ways_1 14 rfl rfl)
theorem dX0_ways_38 : decode cX0_ways 38 = .ok (.bipush 9, 2) := dk_16 9 (dk_at dksX0_ways_1 16 rfl rfl)
theorem dX0_ways_40 : decode cX0_ways 40 = .ok (.if_icmp .ge 35, 3) := dk_162 0 35 (dk_at dksX0_ways_1 18 rfl rfl)
theorem dX0_ways_43 : decode cX0_ways 43 = .ok (.aload_n 0, 1) := dk_42 (dk_at dksX0_ways_1 21 rfl rfl)
theorem dX0_ways_44 : decode cX0_ways 44 = .ok (.getfield 95, 3) := dk_180 0 95 (dk_at dksX0_ways_2 0 rfl rfl)
theorem dX0_ways_47 : decode cX0_ways 47 = .ok (.iload 4, 2) := dk_21 4 (dk_at dksX0_ways_2 3 rfl rfl)
theorem dX0_ways_49 : decode cX0_ways 49 = .ok (.iload 4, 2) := dk_21 4 (dk_at dksX0_ways_2 5 rfl rfl)
theorem dX0_ways_51 : decode cX0_ways 51 = .ok (.aload_n 0, 1) := dk_42 (dk_at dksX0_ways_2 7 rfl rfl)
theorem dX0_ways_52 : decode cX0_ways 52 = .ok (.getfield 60, 3) := dk_180 0 60 (dk_at dksX0_ways_2 8 rfl rfl)
theorem dX0_ways_55 : decode cX0_ways 55 = .ok (.getfield 173, 3) := dk_180 0 173 (dk_at dksX0_ways_2 11 rfl rfl)
theorem dX0_ways_58 : decode cX0_ways 58 = .ok (.iload_n 1, 1) := dk_27 (dk_at dksX0_ways_2 14 rfl rfl)
theorem dX0_ways_59 : decode cX0_ways 59 = .ok (.iaload, 1) := dk_46 (dk_at dksX0_ways_2 15 rfl rfl)
theorem dX0_ways_60 : decode cX0_ways 60 = .ok (.if_icmp .ne 7, 3) := dk_160 0 7 (dk_at dksX0_ways_2 16 rfl rfl)
theorem dX0_ways_63 : decode cX0_ways 63 = .ok (.lconst 1, 1) := dk_10 (dk_at dksX0_ways_2 19 rfl rfl)
theorem dX0_ways_64 : decode cX0_ways 64 = .ok (.goto 4, 3) := dk_167 0 4 (dk_at dksX0_ways_2 20 rfl rfl)
theorem dX0_ways_67 : decode cX0_ways 67 = .ok (.lconst 0, 1) := dk_9 (dk_at dksX0_ways_2 23 rfl rfl)
theorem dX0_ways_68 : decode cX0_ways 68 = .ok (.lastore, 1) := dk_80 (dk_at dksX0_ways_3 0 rfl rfl)
theorem dX0_ways_69 : decode cX0_ways 69 = .ok (.iinc 4 1, 3) := dk_132 4 1 (dk_at dksX0_ways_3 1 rfl rfl)
theorem dX0_ways_72 : decode cX0_ways 72 = .ok (.goto (-36), 3) := dk_167 255 220 (dk_at dksX0_ways_3 4 rfl rfl)
theorem dX0_ways_75 : decode cX0_ways 75 = .ok (.iconst 0, 1) := dk_3 (dk_at dksX0_ways_3 7 rfl rfl)
theorem dX0_ways_76 : decode cX0_ways 76 = .ok (.istore 4, 2) := dk_54 4 (dk_at dksX0_ways_3 8 rfl rfl)
theorem dX0_ways_78 : decode cX0_ways 78 = .ok (.iload 4, 2) := dk_21 4 (dk_at dksX0_ways_3 10 rfl rfl)
theorem dX0_ways_80 : decode cX0_ways 80 = .ok (.iload_n 3, 1) := dk_29 (dk_at dksX0_ways_3 12 rfl rfl)
theorem dX0_ways_81 : decode cX0_ways 81 = .ok (.if_icmp .ge 124, 3) := dk_162 0 124 (dk_at dksX0_ways_3 13 rfl rfl)
theorem dX0_ways_84 : decode cX0_ways 84 = .ok (.iconst 0, 1) := dk_3 (dk_at dksX0_ways_3 16 rfl rfl)
theorem dX0_ways_85 : decode cX0_ways 85 = .ok (.istore 5, 2) := dk_54 5 (dk_at dksX0_ways_3 17 rfl rfl)
theorem dX0_ways_87 : decode cX0_ways 87 = .ok (.iload 5, 2) := dk_21 5 (dk_at dksX0_ways_3 19 rfl rfl)
theorem dX0_ways_89 : decode cX0_ways 89 = .ok (.bipush 9, 2) := dk_16 9 (dk_at dksX0_ways_3 21 rfl rfl)
theorem dX0_ways_91 : decode cX0_ways 91 = .ok (.if_icmp .ge 17, 3) := dk_162 0 17 (dk_at dksX0_ways_4 0 rfl rfl)
theorem dX0_ways_94 : decode cX0_ways 94 = .ok (.aload_n 0, 1) := dk_42 (dk_at dksX0_ways_4 3 rfl rfl)
theorem dX0_ways_95 : decode cX0_ways 95 = .ok (.getfield 99, 3) := dk_180 0 99 (dk_at dksX0_ways_4 4 rfl rfl)
theorem dX0_ways_98 : decode cX0_ways 98 = .ok (.iload 5, 2) := dk_21 5 (dk_at dksX0_ways_4 7 rfl rfl)
theorem dX0_ways_100 : decode cX0_ways 100 = .ok (.lconst 0, 1) := dk_9 (dk_at dksX0_ways_4 9 rfl rfl)
theorem dX0_ways_101 : decode cX0_ways 101 = .ok (.lastore, 1) := dk_80 (dk_at dksX0_ways_4 10 rfl rfl)
theorem dX0_ways_102 : decode cX0_ways 102 = .ok (.iinc 5 1, 3) := dk_132 5 1 (dk_at dksX0_ways_4 11 rfl rfl)
theorem dX0_ways_105 : decode cX0_ways 105 = .ok (.goto (-18), 3) := dk_167 255 238 (dk_at dksX0_ways_4 14 rfl rfl)
theorem dX0_ways_108 : decode cX0_ways 108 = .ok (.iconst 0, 1) := dk_3 (dk_at dksX0_ways_4 17 rfl rfl)
theorem dX0_ways_109 : decode cX0_ways 109 = .ok (.istore 5, 2) := dk_54 5 (dk_at dksX0_ways_4 18 rfl rfl)
theorem dX0_ways_111 : decode cX0_ways 111 = .ok (.iload 5, 2) := dk_21 5 (dk_at dksX0_ways_4 20 rfl rfl)
theorem dX0_ways_113 : decode cX0_ways 113 = .ok (.bipush 9, 2) := dk_16 9 (dk_at dksX0_ways_4 22 rfl rfl)
theorem dX0_ways_115 : decode cX0_ways 115 = .ok (.if_icmp .ge 69, 3) := dk_162 0 69 (dk_at dksX0_ways_5 0 rfl rfl)
theorem dX0_ways_118 : decode cX0_ways 118 = .ok (.iconst 0, 1) := dk_3 (dk_at dksX0_ways_5 3 rfl rfl)
theorem dX0_ways_119 : decode cX0_ways 119 = .ok (.istore 6, 2) := dk_54 6 (dk_at dksX0_ways_5 4 rfl rfl)
theorem dX0_ways_121 : decode cX0_ways 121 = .ok (.iload 6, 2) := dk_21 6 (dk_at dksX0_ways_5 6 rfl rfl)
theorem dX0_ways_123 : decode cX0_ways 123 = .ok (.bipush 7, 2) := dk_16 7 (dk_at dksX0_ways_5 8 rfl rfl)
theorem dX0_ways_125 : decode cX0_ways 125 = .ok (.if_icmp .ge 53, 3) := dk_162 0 53 (dk_at dksX0_ways_5 10 rfl rfl)
theorem dX0_ways_128 : decode cX0_ways 128 = .ok (.aload_n 0, 1) := dk_42 (dk_at dksX0_ways_5 13 rfl rfl)
theorem dX0_ways_129 : decode cX0_ways 129 = .ok (.getfield 95, 3) := dk_180 0 95 (dk_at dksX0_ways_5 14 rfl rfl)
theorem dX0_ways_132 : decode cX0_ways 132 = .ok (.iload 5, 2) := dk_21 5 (dk_at dksX0_ways_5 17 rfl rfl)
theorem dX0_ways_134 : decode cX0_ways 134 = .ok (.laload, 1) := dk_47 (dk_at dksX0_ways_5 19 rfl rfl)
theorem dX0_ways_135 : decode cX0_ways 135 = .ok (.lconst 0, 1) := dk_9 (dk_at dksX0_ways_5 20 rfl rfl)
theorem dX0_ways_136 : decode cX0_ways 136 = .ok (.lcmp, 1) := dk_148 (dk_at dksX0_ways_5 21 rfl rfl)
theorem dX0_ways_137 : decode cX0_ways 137 = .ok (.ifCond .le 41, 3) := dk_158 0 41 (dk_at dksX0_ways_6 0 rfl rfl)
theorem dX0_ways_140 : decode cX0_ways 140 = .ok (.aload_n 0, 1) := dk_42 (dk_at dksX0_ways_6 3 rfl rfl)
theorem dX0_ways_141 : decode cX0_ways 141 = .ok (.aload_n 0, 1) := dk_42 (dk_at dksX0_ways_6 4 rfl rfl)
theorem dX0_ways_142 : decode cX0_ways 142 = .ok (.iload_n 1, 1) := dk_27 (dk_at dksX0_ways_6 5 rfl rfl)
theorem dX0_ways_143 : decode cX0_ways 143 = .ok (.iload 6, 2) := dk_21 6 (dk_at dksX0_ways_6 6 rfl rfl)
theorem dX0_ways_145 : decode cX0_ways 145 = .ok (.iload 5, 2) := dk_21 5 (dk_at dksX0_ways_6 8 rfl rfl)
theorem dX0_ways_147 : decode cX0_ways 147 = .ok (.aload_n 0, 1) := dk_42 (dk_at dksX0_ways_6 10 rfl rfl)
theorem dX0_ways_148 : decode cX0_ways 148 = .ok (.iload 4, 2) := dk_21 4 (dk_at dksX0_ways_6 11 rfl rfl)
theorem dX0_ways_150 : decode cX0_ways 150 = .ok (.invokevirtual 280, 3) := dk_182 1 24 (dk_at dksX0_ways_6 13 rfl rfl)
theorem dX0_ways_153 : decode cX0_ways 153 = .ok (.aload_n 0, 1) := dk_42 (dk_at dksX0_ways_6 16 rfl rfl)
theorem dX0_ways_154 : decode cX0_ways 154 = .ok (.iload 4, 2) := dk_21 4 (dk_at dksX0_ways_6 17 rfl rfl)
theorem dX0_ways_156 : decode cX0_ways 156 = .ok (.invokevirtual 283, 3) := dk_182 1 27 (dk_at dksX0_ways_6 19 rfl rfl)
theorem dX0_ways_159 : decode cX0_ways 159 = .ok (.invokevirtual 286, 3) := dk_182 1 30 (dk_at dksX0_ways_7 0 rfl rfl)
theorem dX0_ways_162 : decode cX0_ways 162 = .ok (.aload_n 0, 1) := dk_42 (dk_at dksX0_ways_7 3 rfl rfl)
theorem dX0_ways_163 : decode cX0_ways 163 = .ok (.getfield 95, 3) := dk_180 0 95 (dk_at dksX0_ways_7 4 rfl rfl)
theorem dX0_ways_166 : decode cX0_ways 166 = .ok (.iload 5, 2) := dk_21 5 (dk_at dksX0_ways_7 7 rfl rfl)
theorem dX0_ways_168 : decode cX0_ways 168 = .ok (.laload, 1) := dk_47 (dk_at dksX0_ways_7 9 rfl rfl)
theorem dX0_ways_169 : decode cX0_ways 169 = .ok (.invokevirtual 325, 3) := dk_182 1 69 (dk_at dksX0_ways_7 10 rfl rfl)
theorem dX0_ways_172 : decode cX0_ways 172 = .ok (.iinc 6 1, 3) := dk_132 6 1 (dk_at dksX0_ways_7 13 rfl rfl)
theorem dX0_ways_175 : decode cX0_ways 175 = .ok (.goto (-54), 3) := dk_167 255 202 (dk_at dksX0_ways_7 16 rfl rfl)
theorem dX0_ways_178 : decode cX0_ways 178 = .ok (.iinc 5 1, 3) := dk_132 5 1 (dk_at dksX0_ways_7 19 rfl rfl)
theorem dX0_ways_181 : decode cX0_ways 181 = .ok (.goto (-70), 3) := dk_167 255 186 (dk_at dksX0_ways_8 0 rfl rfl)
theorem dX0_ways_184 : decode cX0_ways 184 = .ok (.aload_n 0, 1) := dk_42 (dk_at dksX0_ways_8 3 rfl rfl)
theorem dX0_ways_185 : decode cX0_ways 185 = .ok (.getfield 99, 3) := dk_180 0 99 (dk_at dksX0_ways_8 4 rfl rfl)
theorem dX0_ways_188 : decode cX0_ways 188 = .ok (.iconst 0, 1) := dk_3 (dk_at dksX0_ways_8 7 rfl rfl)
theorem dX0_ways_189 : decode cX0_ways 189 = .ok (.aload_n 0, 1) := dk_42 (dk_at dksX0_ways_8 8 rfl rfl)
theorem dX0_ways_190 : decode cX0_ways 190 = .ok (.getfield 95, 3) := dk_180 0 95 (dk_at dksX0_ways_8 9 rfl rfl)
theorem dX0_ways_193 : decode cX0_ways 193 = .ok (.iconst 0, 1) := dk_3 (dk_at dksX0_ways_8 12 rfl rfl)
theorem dX0_ways_194 : decode cX0_ways 194 = .ok (.bipush 9, 2) := dk_16 9 (dk_at dksX0_ways_8 13 rfl rfl)
theorem dX0_ways_196 : decode cX0_ways 196 = .ok (.invokestatic 274, 3) := dk_184 1 18 (dk_at dksX0_ways_8 15 rfl rfl)
theorem dX0_ways_199 : decode cX0_ways 199 = .ok (.iinc 4 1, 3) := dk_132 4 1 (dk_at dksX0_ways_8 18 rfl rfl)
theorem dX0_ways_202 : decode cX0_ways 202 = .ok (.goto (-124), 3) := dk_167 255 132 (dk_at dksX0_ways_8 21 rfl rfl)
theorem dX0_ways_205 : decode cX0_ways 205 = .ok (.aload_n 0, 1) := dk_42 (dk_at dksX0_ways_9 0 rfl rfl)
theorem dX0_ways_206 : decode cX0_ways 206 = .ok (.getfield 95, 3) := dk_180 0 95 (dk_at dksX0_ways_9 1 rfl rfl)
theorem dX0_ways_209 : decode cX0_ways 209 = .ok (.iload_n 2, 1) := dk_28 (dk_at dksX0_ways_9 4 rfl rfl)
theorem dX0_ways_210 : decode cX0_ways 210 = .ok (.laload, 1) := dk_47 (dk_at dksX0_ways_9 5 rfl rfl)
theorem dX0_ways_211 : decode cX0_ways 211 = .ok (.lreturn, 1) := dk_173 (dk_at dksX0_ways_9 6 rfl rfl)
def dkwX0_counts_0 : List UInt8 := [27, 2, 159, 0, 13, 42, 180, 0, 99, 27, 92, 47, 32, 97, 80, 177]
abbrev dktX0_counts_0 : List UInt8 := dkwX0_counts_0 ++ []
theorem dksX0_counts_0 : cX0_counts.data.toList.drop 0 = dktX0_counts_0 := by decide +kernel
theorem dX0_counts_0 : decode cX0_counts 0 = .ok (.iload_n 1, 1) := dk_27 (dk_at dksX0_counts_0 0 rfl rfl)
theorem dX0_counts_1 : decode cX0_counts 1 = .ok (.iconst (-1), 1) := dk_2 (dk_at dksX0_counts_0 1 rfl rfl)
theorem dX0_counts_2 : decode cX0_counts 2 = .ok (.if_icmp .eq 13, 3) := dk_159 0 13 (dk_at dksX0_counts_0 2 rfl rfl)
theorem dX0_counts_5 : decode cX0_counts 5 = .ok (.aload_n 0, 1) := dk_42 (dk_at dksX0_counts_0 5 rfl rfl)
theorem dX0_counts_6 : decode cX0_counts 6 = .ok (.getfield 99, 3) := dk_180 0 99 (dk_at dksX0_counts_0 6 rfl rfl)
theorem dX0_counts_9 : decode cX0_counts 9 = .ok (.iload_n 1, 1) := dk_27 (dk_at dksX0_counts_0 9 rfl rfl)
theorem dX0_counts_10 : decode cX0_counts 10 = .ok (.dup2, 1) := dk_92 (dk_at dksX0_counts_0 10 rfl rfl)
theorem dX0_counts_11 : decode cX0_counts 11 = .ok (.laload, 1) := dk_47 (dk_at dksX0_counts_0 11 rfl rfl)
theorem dX0_counts_12 : decode cX0_counts 12 = .ok (.lload_n 2, 1) := dk_32 (dk_at dksX0_counts_0 12 rfl rfl)
theorem dX0_counts_13 : decode cX0_counts 13 = .ok (.ladd, 1) := dk_97 (dk_at dksX0_counts_0 13 rfl rfl)
theorem dX0_counts_14 : decode cX0_counts 14 = .ok (.lastore, 1) := dk_80 (dk_at dksX0_counts_0 14 rfl rfl)
theorem dX0_counts_15 : decode cX0_counts 15 = .ok (.return_, 1) := dk_177 (dk_at dksX0_counts_0 15 rfl rfl)
def dkwX0_reach_1 : List UInt8 := [16, 253, 172, 42, 182, 1, 50, 42, 27, 28, 182, 1, 75, 172]
abbrev dktX0_reach_1 : List UInt8 := dkwX0_reach_1 ++ []
def dkwX0_reach_0 : List UInt8 := [42, 27, 182, 0, 169, 154, 0, 6, 16, 254, 172, 28, 133, 9, 20, 1, 73, 184, 0, 132, 154, 0, 6]
abbrev dktX0_reach_0 : List UInt8 := dkwX0_reach_0 ++ dktX0_reach_1
theorem dksX0_reach_0 : cX0_reach.data.toList.drop 0 = dktX0_reach_0 := by decide +kernel
theorem dksX0_reach_1 : cX0_reach.data.toList.drop 23 = dktX0_reach_1 := dk_seg dksX0_reach_0 23 rfl rfl
theorem dX0_reach_0 : decode cX0_reach 0 = .ok (.aload_n 0, 1) := dk_42 (dk_at dksX0_reach_0 0 rfl rfl)
theorem dX0_reach_1 : decode cX0_reach 1 = .ok (.iload_n 1, 1) := dk_27 (dk_at dksX0_reach_0 1 rfl rfl)
theorem dX0_reach_2 : decode cX0_reach 2 = .ok (.invokevirtual 169, 3) := dk_182 0 169 (dk_at dksX0_reach_0 2 rfl rfl)
theorem dX0_reach_5 : decode cX0_reach 5 = .ok (.ifCond .ne 6, 3) := dk_154 0 6 (dk_at dksX0_reach_0 5 rfl rfl)
theorem dX0_reach_8 : decode cX0_reach 8 = .ok (.bipush (-2), 2) := dk_16 254 (dk_at dksX0_reach_0 8 rfl rfl)
theorem dX0_reach_10 : decode cX0_reach 10 = .ok (.ireturn, 1) := dk_172 (dk_at dksX0_reach_0 10 rfl rfl)
theorem dX0_reach_11 : decode cX0_reach 11 = .ok (.iload_n 2, 1) := dk_28 (dk_at dksX0_reach_0 11 rfl rfl)
theorem dX0_reach_12 : decode cX0_reach 12 = .ok (.i2l, 1) := dk_133 (dk_at dksX0_reach_0 12 rfl rfl)
theorem dX0_reach_13 : decode cX0_reach 13 = .ok (.lconst 0, 1) := dk_9 (dk_at dksX0_reach_0 13 rfl rfl)
theorem dX0_reach_14 : decode cX0_reach 14 = .ok (.ldc2_w 329, 3) := dk_20 1 73 (dk_at dksX0_reach_0 14 rfl rfl)
theorem dX0_reach_17 : decode cX0_reach 17 = .ok (.invokestatic 132, 3) := dk_184 0 132 (dk_at dksX0_reach_0 17 rfl rfl)
theorem dX0_reach_20 : decode cX0_reach 20 = .ok (.ifCond .ne 6, 3) := dk_154 0 6 (dk_at dksX0_reach_0 20 rfl rfl)
theorem dX0_reach_23 : decode cX0_reach 23 = .ok (.bipush (-3), 2) := dk_16 253 (dk_at dksX0_reach_1 0 rfl rfl)
theorem dX0_reach_25 : decode cX0_reach 25 = .ok (.ireturn, 1) := dk_172 (dk_at dksX0_reach_1 2 rfl rfl)
theorem dX0_reach_26 : decode cX0_reach 26 = .ok (.aload_n 0, 1) := dk_42 (dk_at dksX0_reach_1 3 rfl rfl)
theorem dX0_reach_27 : decode cX0_reach 27 = .ok (.invokevirtual 306, 3) := dk_182 1 50 (dk_at dksX0_reach_1 4 rfl rfl)
theorem dX0_reach_30 : decode cX0_reach 30 = .ok (.aload_n 0, 1) := dk_42 (dk_at dksX0_reach_1 7 rfl rfl)
theorem dX0_reach_31 : decode cX0_reach 31 = .ok (.iload_n 1, 1) := dk_27 (dk_at dksX0_reach_1 8 rfl rfl)
theorem dX0_reach_32 : decode cX0_reach 32 = .ok (.iload_n 2, 1) := dk_28 (dk_at dksX0_reach_1 9 rfl rfl)
theorem dX0_reach_33 : decode cX0_reach 33 = .ok (.invokevirtual 331, 3) := dk_182 1 75 (dk_at dksX0_reach_1 10 rfl rfl)
theorem dX0_reach_36 : decode cX0_reach 36 = .ok (.ireturn, 1) := dk_172 (dk_at dksX0_reach_1 13 rfl rfl)
def dkwX0_reachOf_1 : List UInt8 := [21, 4, 182, 1, 34, 62, 132, 4, 1, 167, 255, 238, 29, 172]
abbrev dktX0_reachOf_1 : List UInt8 := dkwX0_reachOf_1 ++ []
def dkwX0_reachOf_0 : List UInt8 := [4, 42, 180, 0, 60, 180, 0, 173, 27, 46, 120, 62, 3, 54, 4, 21, 4, 28, 162, 0, 18, 42, 27, 29]
abbrev dktX0_reachOf_0 : List UInt8 := dkwX0_reachOf_0 ++ dktX0_reachOf_1
theorem dksX0_reachOf_0 : cX0_reachOf.data.toList.drop 0 = dktX0_reachOf_0 := by decide +kernel
theorem dksX0_reachOf_1 : cX0_reachOf.data.toList.drop 24 = dktX0_reachOf_1 := dk_seg dksX0_reachOf_0 24 rfl rfl
theorem dX0_reachOf_0 : decode cX0_reachOf 0 = .ok (.iconst 1, 1) := dk_4 (dk_at dksX0_reachOf_0 0 rfl rfl)
theorem dX0_reachOf_1 : decode cX0_reachOf 1 = .ok (.aload_n 0, 1) := dk_42 (dk_at dksX0_reachOf_0 1 rfl rfl)
theorem dX0_reachOf_2 : decode cX0_reachOf 2 = .ok (.getfield 60, 3) := dk_180 0 60 (dk_at dksX0_reachOf_0 2 rfl rfl)
theorem dX0_reachOf_5 : decode cX0_reachOf 5 = .ok (.getfield 173, 3) := dk_180 0 173 (dk_at dksX0_reachOf_0 5 rfl rfl)
theorem dX0_reachOf_8 : decode cX0_reachOf 8 = .ok (.iload_n 1, 1) := dk_27 (dk_at dksX0_reachOf_0 8 rfl rfl)
theorem dX0_reachOf_9 : decode cX0_reachOf 9 = .ok (.iaload, 1) := dk_46 (dk_at dksX0_reachOf_0 9 rfl rfl)
theorem dX0_reachOf_10 : decode cX0_reachOf 10 = .ok (.ishl, 1) := dk_120 (dk_at dksX0_reachOf_0 10 rfl rfl)
theorem dX0_reachOf_11 : decode cX0_reachOf 11 = .ok (.istore_n 3, 1) := dk_62 (dk_at dksX0_reachOf_0 11 rfl rfl)
theorem dX0_reachOf_12 : decode cX0_reachOf 12 = .ok (.iconst 0, 1) := dk_3 (dk_at dksX0_reachOf_0 12 rfl rfl)
theorem dX0_reachOf_13 : decode cX0_reachOf 13 = .ok (.istore 4, 2) := dk_54 4 (dk_at dksX0_reachOf_0 13 rfl rfl)
theorem dX0_reachOf_15 : decode cX0_reachOf 15 = .ok (.iload 4, 2) := dk_21 4 (dk_at dksX0_reachOf_0 15 rfl rfl)
theorem dX0_reachOf_17 : decode cX0_reachOf 17 = .ok (.iload_n 2, 1) := dk_28 (dk_at dksX0_reachOf_0 17 rfl rfl)
theorem dX0_reachOf_18 : decode cX0_reachOf 18 = .ok (.if_icmp .ge 18, 3) := dk_162 0 18 (dk_at dksX0_reachOf_0 18 rfl rfl)
theorem dX0_reachOf_21 : decode cX0_reachOf 21 = .ok (.aload_n 0, 1) := dk_42 (dk_at dksX0_reachOf_0 21 rfl rfl)
theorem dX0_reachOf_22 : decode cX0_reachOf 22 = .ok (.iload_n 1, 1) := dk_27 (dk_at dksX0_reachOf_0 22 rfl rfl)
theorem dX0_reachOf_23 : decode cX0_reachOf 23 = .ok (.iload_n 3, 1) := dk_29 (dk_at dksX0_reachOf_0 23 rfl rfl)
theorem dX0_reachOf_24 : decode cX0_reachOf 24 = .ok (.iload 4, 2) := dk_21 4 (dk_at dksX0_reachOf_1 0 rfl rfl)
theorem dX0_reachOf_26 : decode cX0_reachOf 26 = .ok (.invokevirtual 290, 3) := dk_182 1 34 (dk_at dksX0_reachOf_1 2 rfl rfl)
theorem dX0_reachOf_29 : decode cX0_reachOf 29 = .ok (.istore_n 3, 1) := dk_62 (dk_at dksX0_reachOf_1 5 rfl rfl)
theorem dX0_reachOf_30 : decode cX0_reachOf 30 = .ok (.iinc 4 1, 3) := dk_132 4 1 (dk_at dksX0_reachOf_1 6 rfl rfl)
theorem dX0_reachOf_33 : decode cX0_reachOf 33 = .ok (.goto (-18), 3) := dk_167 255 238 (dk_at dksX0_reachOf_1 9 rfl rfl)
theorem dX0_reachOf_36 : decode cX0_reachOf 36 = .ok (.iload_n 3, 1) := dk_29 (dk_at dksX0_reachOf_1 12 rfl rfl)
theorem dX0_reachOf_37 : decode cX0_reachOf 37 = .ok (.ireturn, 1) := dk_172 (dk_at dksX0_reachOf_1 13 rfl rfl)
def dkwX0_meet_0 : List UInt8 := [42, 27, 28, 182, 1, 81, 153, 0, 12, 42, 27, 28, 182, 1, 84, 167, 0, 5, 16, 254, 172]
abbrev dktX0_meet_0 : List UInt8 := dkwX0_meet_0 ++ []
theorem dksX0_meet_0 : cX0_meet.data.toList.drop 0 = dktX0_meet_0 := by decide +kernel
theorem dX0_meet_0 : decode cX0_meet 0 = .ok (.aload_n 0, 1) := dk_42 (dk_at dksX0_meet_0 0 rfl rfl)
theorem dX0_meet_1 : decode cX0_meet 1 = .ok (.iload_n 1, 1) := dk_27 (dk_at dksX0_meet_0 1 rfl rfl)
theorem dX0_meet_2 : decode cX0_meet 2 = .ok (.iload_n 2, 1) := dk_28 (dk_at dksX0_meet_0 2 rfl rfl)
theorem dX0_meet_3 : decode cX0_meet 3 = .ok (.invokevirtual 337, 3) := dk_182 1 81 (dk_at dksX0_meet_0 3 rfl rfl)
theorem dX0_meet_6 : decode cX0_meet 6 = .ok (.ifCond .eq 12, 3) := dk_153 0 12 (dk_at dksX0_meet_0 6 rfl rfl)
theorem dX0_meet_9 : decode cX0_meet 9 = .ok (.aload_n 0, 1) := dk_42 (dk_at dksX0_meet_0 9 rfl rfl)
theorem dX0_meet_10 : decode cX0_meet 10 = .ok (.iload_n 1, 1) := dk_27 (dk_at dksX0_meet_0 10 rfl rfl)
theorem dX0_meet_11 : decode cX0_meet 11 = .ok (.iload_n 2, 1) := dk_28 (dk_at dksX0_meet_0 11 rfl rfl)
theorem dX0_meet_12 : decode cX0_meet 12 = .ok (.invokevirtual 340, 3) := dk_182 1 84 (dk_at dksX0_meet_0 12 rfl rfl)
theorem dX0_meet_15 : decode cX0_meet 15 = .ok (.goto 5, 3) := dk_167 0 5 (dk_at dksX0_meet_0 15 rfl rfl)
theorem dX0_meet_18 : decode cX0_meet 18 = .ok (.bipush (-2), 2) := dk_16 254 (dk_at dksX0_meet_0 18 rfl rfl)
theorem dX0_meet_20 : decode cX0_meet 20 = .ok (.ireturn, 1) := dk_172 (dk_at dksX0_meet_0 20 rfl rfl)
def dkwX0_areTwo_1 : List UInt8 := [167, 0, 4, 3, 172]
abbrev dktX0_areTwo_1 : List UInt8 := dkwX0_areTwo_1 ++ []
def dkwX0_areTwo_0 : List UInt8 := [42, 27, 182, 0, 169, 153, 0, 20, 42, 28, 182, 0, 169, 153, 0, 12, 27, 28, 159, 0, 7, 4]
abbrev dktX0_areTwo_0 : List UInt8 := dkwX0_areTwo_0 ++ dktX0_areTwo_1
theorem dksX0_areTwo_0 : cX0_areTwo.data.toList.drop 0 = dktX0_areTwo_0 := by decide +kernel
theorem dksX0_areTwo_1 : cX0_areTwo.data.toList.drop 22 = dktX0_areTwo_1 := dk_seg dksX0_areTwo_0 22 rfl rfl
theorem dX0_areTwo_0 : decode cX0_areTwo 0 = .ok (.aload_n 0, 1) := dk_42 (dk_at dksX0_areTwo_0 0 rfl rfl)
theorem dX0_areTwo_1 : decode cX0_areTwo 1 = .ok (.iload_n 1, 1) := dk_27 (dk_at dksX0_areTwo_0 1 rfl rfl)
theorem dX0_areTwo_2 : decode cX0_areTwo 2 = .ok (.invokevirtual 169, 3) := dk_182 0 169 (dk_at dksX0_areTwo_0 2 rfl rfl)
theorem dX0_areTwo_5 : decode cX0_areTwo 5 = .ok (.ifCond .eq 20, 3) := dk_153 0 20 (dk_at dksX0_areTwo_0 5 rfl rfl)
theorem dX0_areTwo_8 : decode cX0_areTwo 8 = .ok (.aload_n 0, 1) := dk_42 (dk_at dksX0_areTwo_0 8 rfl rfl)
theorem dX0_areTwo_9 : decode cX0_areTwo 9 = .ok (.iload_n 2, 1) := dk_28 (dk_at dksX0_areTwo_0 9 rfl rfl)
theorem dX0_areTwo_10 : decode cX0_areTwo 10 = .ok (.invokevirtual 169, 3) := dk_182 0 169 (dk_at dksX0_areTwo_0 10 rfl rfl)
theorem dX0_areTwo_13 : decode cX0_areTwo 13 = .ok (.ifCond .eq 12, 3) := dk_153 0 12 (dk_at dksX0_areTwo_0 13 rfl rfl)
theorem dX0_areTwo_16 : decode cX0_areTwo 16 = .ok (.iload_n 1, 1) := dk_27 (dk_at dksX0_areTwo_0 16 rfl rfl)
theorem dX0_areTwo_17 : decode cX0_areTwo 17 = .ok (.iload_n 2, 1) := dk_28 (dk_at dksX0_areTwo_0 17 rfl rfl)
theorem dX0_areTwo_18 : decode cX0_areTwo 18 = .ok (.if_icmp .eq 7, 3) := dk_159 0 7 (dk_at dksX0_areTwo_0 18 rfl rfl)
theorem dX0_areTwo_21 : decode cX0_areTwo 21 = .ok (.iconst 1, 1) := dk_4 (dk_at dksX0_areTwo_0 21 rfl rfl)
theorem dX0_areTwo_22 : decode cX0_areTwo 22 = .ok (.goto 4, 3) := dk_167 0 4 (dk_at dksX0_areTwo_1 0 rfl rfl)
theorem dX0_areTwo_25 : decode cX0_areTwo 25 = .ok (.iconst 0, 1) := dk_3 (dk_at dksX0_areTwo_1 3 rfl rfl)
theorem dX0_areTwo_26 : decode cX0_areTwo 26 = .ok (.ireturn, 1) := dk_172 (dk_at dksX0_areTwo_1 4 rfl rfl)
def dkwX0_meets_3 : List UInt8 := [182, 1, 34, 54, 4, 132, 5, 1, 167, 255, 208, 2, 172]
abbrev dktX0_meets_3 : List UInt8 := dkwX0_meets_3 ++ []
def dkwX0_meets_2 : List UInt8 := [180, 1, 78, 153, 0, 6, 21, 5, 172, 42, 27, 29, 21, 5, 182, 1, 34, 62, 42, 28, 21, 4, 21, 5]
abbrev dktX0_meets_2 : List UInt8 := dkwX0_meets_2 ++ dktX0_meets_3
def dkwX0_meets_1 : List UInt8 := [28, 46, 120, 54, 4, 3, 54, 5, 21, 5, 16, 60, 163, 0, 47, 42, 29, 21, 4, 126, 181, 1, 78, 42]
abbrev dktX0_meets_1 : List UInt8 := dkwX0_meets_1 ++ dktX0_meets_2
def dkwX0_meets_0 : List UInt8 := [42, 182, 1, 50, 4, 42, 180, 0, 60, 180, 0, 173, 27, 46, 120, 62, 4, 42, 180, 0, 60, 180, 0, 173]
abbrev dktX0_meets_0 : List UInt8 := dkwX0_meets_0 ++ dktX0_meets_1
theorem dksX0_meets_0 : cX0_meets.data.toList.drop 0 = dktX0_meets_0 := by decide +kernel
theorem dksX0_meets_1 : cX0_meets.data.toList.drop 24 = dktX0_meets_1 := dk_seg dksX0_meets_0 24 rfl rfl
theorem dksX0_meets_2 : cX0_meets.data.toList.drop 48 = dktX0_meets_2 := dk_seg dksX0_meets_1 24 rfl rfl
theorem dksX0_meets_3 : cX0_meets.data.toList.drop 72 = dktX0_meets_3 := dk_seg dksX0_meets_2 24 rfl rfl
theorem dX0_meets_0 : decode cX0_meets 0 = .ok (.aload_n 0, 1) := dk_42 (dk_at dksX0_meets_0 0 rfl rfl)
theorem dX0_meets_1 : decode cX0_meets 1 = .ok (.invokevirtual 306, 3) := dk_182 1 50 (dk_at dksX0_meets_0 1 rfl rfl)
theorem dX0_meets_4 : decode cX0_meets 4 = .ok (.iconst 1, 1) := dk_4 (dk_at dksX0_meets_0 4 rfl rfl)
theorem dX0_meets_5 : decode cX0_meets 5 = .ok (.aload_n 0, 1) := dk_42 (dk_at dksX0_meets_0 5 rfl rfl)
theorem dX0_meets_6 : decode cX0_meets 6 = .ok (.getfield 60, 3) := dk_180 0 60 (dk_at dksX0_meets_0 6 rfl rfl)
theorem dX0_meets_9 : decode cX0_meets 9 = .ok (.getfield 173, 3) := dk_180 0 173 (dk_at dksX0_meets_0 9 rfl rfl)
theorem dX0_meets_12 : decode cX0_meets 12 = .ok (.iload_n 1, 1) := dk_27 (dk_at dksX0_meets_0 12 rfl rfl)
theorem dX0_meets_13 : decode cX0_meets 13 = .ok (.iaload, 1) := dk_46 (dk_at dksX0_meets_0 13 rfl rfl)
theorem dX0_meets_14 : decode cX0_meets 14 = .ok (.ishl, 1) := dk_120 (dk_at dksX0_meets_0 14 rfl rfl)
theorem dX0_meets_15 : decode cX0_meets 15 = .ok (.istore_n 3, 1) := dk_62 (dk_at dksX0_meets_0 15 rfl rfl)
theorem dX0_meets_16 : decode cX0_meets 16 = .ok (.iconst 1, 1) := dk_4 (dk_at dksX0_meets_0 16 rfl rfl)
theorem dX0_meets_17 : decode cX0_meets 17 = .ok (.aload_n 0, 1) := dk_42 (dk_at dksX0_meets_0 17 rfl rfl)
theorem dX0_meets_18 : decode cX0_meets 18 = .ok (.getfield 60, 3) := dk_180 0 60 (dk_at dksX0_meets_0 18 rfl rfl)
theorem dX0_meets_21 : decode cX0_meets 21 = .ok (.getfield 173, 3) := dk_180 0 173 (dk_at dksX0_meets_0 21 rfl rfl)
theorem dX0_meets_24 : decode cX0_meets 24 = .ok (.iload_n 2, 1) := dk_28 (dk_at dksX0_meets_1 0 rfl rfl)
theorem dX0_meets_25 : decode cX0_meets 25 = .ok (.iaload, 1) := dk_46 (dk_at dksX0_meets_1 1 rfl rfl)
theorem dX0_meets_26 : decode cX0_meets 26 = .ok (.ishl, 1) := dk_120 (dk_at dksX0_meets_1 2 rfl rfl)
theorem dX0_meets_27 : decode cX0_meets 27 = .ok (.istore 4, 2) := dk_54 4 (dk_at dksX0_meets_1 3 rfl rfl)
theorem dX0_meets_29 : decode cX0_meets 29 = .ok (.iconst 0, 1) := dk_3 (dk_at dksX0_meets_1 5 rfl rfl)
theorem dX0_meets_30 : decode cX0_meets 30 = .ok (.istore 5, 2) := dk_54 5 (dk_at dksX0_meets_1 6 rfl rfl)
theorem dX0_meets_32 : decode cX0_meets 32 = .ok (.iload 5, 2) := dk_21 5 (dk_at dksX0_meets_1 8 rfl rfl)
theorem dX0_meets_34 : decode cX0_meets 34 = .ok (.bipush 60, 2) := dk_16 60 (dk_at dksX0_meets_1 10 rfl rfl)
theorem dX0_meets_36 : decode cX0_meets 36 = .ok (.if_icmp .gt 47, 3) := dk_163 0 47 (dk_at dksX0_meets_1 12 rfl rfl)
theorem dX0_meets_39 : decode cX0_meets 39 = .ok (.aload_n 0, 1) := dk_42 (dk_at dksX0_meets_1 15 rfl rfl)
theorem dX0_meets_40 : decode cX0_meets 40 = .ok (.iload_n 3, 1) := dk_29 (dk_at dksX0_meets_1 16 rfl rfl)
theorem dX0_meets_41 : decode cX0_meets 41 = .ok (.iload 4, 2) := dk_21 4 (dk_at dksX0_meets_1 17 rfl rfl)
theorem dX0_meets_43 : decode cX0_meets 43 = .ok (.iand, 1) := dk_126 (dk_at dksX0_meets_1 19 rfl rfl)
theorem dX0_meets_44 : decode cX0_meets 44 = .ok (.putfield 334, 3) := dk_181 1 78 (dk_at dksX0_meets_1 20 rfl rfl)
theorem dX0_meets_47 : decode cX0_meets 47 = .ok (.aload_n 0, 1) := dk_42 (dk_at dksX0_meets_1 23 rfl rfl)
theorem dX0_meets_48 : decode cX0_meets 48 = .ok (.getfield 334, 3) := dk_180 1 78 (dk_at dksX0_meets_2 0 rfl rfl)
theorem dX0_meets_51 : decode cX0_meets 51 = .ok (.ifCond .eq 6, 3) := dk_153 0 6 (dk_at dksX0_meets_2 3 rfl rfl)
theorem dX0_meets_54 : decode cX0_meets 54 = .ok (.iload 5, 2) := dk_21 5 (dk_at dksX0_meets_2 6 rfl rfl)
theorem dX0_meets_56 : decode cX0_meets 56 = .ok (.ireturn, 1) := dk_172 (dk_at dksX0_meets_2 8 rfl rfl)
theorem dX0_meets_57 : decode cX0_meets 57 = .ok (.aload_n 0, 1) := dk_42 (dk_at dksX0_meets_2 9 rfl rfl)
theorem dX0_meets_58 : decode cX0_meets 58 = .ok (.iload_n 1, 1) := dk_27 (dk_at dksX0_meets_2 10 rfl rfl)
theorem dX0_meets_59 : decode cX0_meets 59 = .ok (.iload_n 3, 1) := dk_29 (dk_at dksX0_meets_2 11 rfl rfl)
theorem dX0_meets_60 : decode cX0_meets 60 = .ok (.iload 5, 2) := dk_21 5 (dk_at dksX0_meets_2 12 rfl rfl)
theorem dX0_meets_62 : decode cX0_meets 62 = .ok (.invokevirtual 290, 3) := dk_182 1 34 (dk_at dksX0_meets_2 14 rfl rfl)
theorem dX0_meets_65 : decode cX0_meets 65 = .ok (.istore_n 3, 1) := dk_62 (dk_at dksX0_meets_2 17 rfl rfl)
theorem dX0_meets_66 : decode cX0_meets 66 = .ok (.aload_n 0, 1) := dk_42 (dk_at dksX0_meets_2 18 rfl rfl)
theorem dX0_meets_67 : decode cX0_meets 67 = .ok (.iload_n 2, 1) := dk_28 (dk_at dksX0_meets_2 19 rfl rfl)
theorem dX0_meets_68 : decode cX0_meets 68 = .ok (.iload 4, 2) := dk_21 4 (dk_at dksX0_meets_2 20 rfl rfl)
theorem dX0_meets_70 : decode cX0_meets 70 = .ok (.iload 5, 2) := dk_21 5 (dk_at dksX0_meets_2 22 rfl rfl)
theorem dX0_meets_72 : decode cX0_meets 72 = .ok (.invokevirtual 290, 3) := dk_182 1 34 (dk_at dksX0_meets_3 0 rfl rfl)
theorem dX0_meets_75 : decode cX0_meets 75 = .ok (.istore 4, 2) := dk_54 4 (dk_at dksX0_meets_3 3 rfl rfl)
theorem dX0_meets_77 : decode cX0_meets 77 = .ok (.iinc 5 1, 3) := dk_132 5 1 (dk_at dksX0_meets_3 5 rfl rfl)
theorem dX0_meets_80 : decode cX0_meets 80 = .ok (.goto (-48), 3) := dk_167 255 208 (dk_at dksX0_meets_3 8 rfl rfl)
theorem dX0_meets_83 : decode cX0_meets 83 = .ok (.iconst (-1), 1) := dk_2 (dk_at dksX0_meets_3 11 rfl rfl)
theorem dX0_meets_84 : decode cX0_meets 84 = .ok (.ireturn, 1) := dk_172 (dk_at dksX0_meets_3 12 rfl rfl)
def dkwX0_meetAt_1 : List UInt8 := [167, 0, 10, 42, 180, 1, 78, 184, 1, 87, 172]
abbrev dktX0_meetAt_1 : List UInt8 := dkwX0_meetAt_1 ++ []
def dkwX0_meetAt_0 : List UInt8 := [42, 27, 28, 182, 1, 81, 154, 0, 6, 16, 254, 172, 42, 27, 28, 182, 1, 84, 2, 160, 0, 7, 2]
abbrev dktX0_meetAt_0 : List UInt8 := dkwX0_meetAt_0 ++ dktX0_meetAt_1
theorem dksX0_meetAt_0 : cX0_meetAt.data.toList.drop 0 = dktX0_meetAt_0 := by decide +kernel
theorem dksX0_meetAt_1 : cX0_meetAt.data.toList.drop 23 = dktX0_meetAt_1 := dk_seg dksX0_meetAt_0 23 rfl rfl
theorem dX0_meetAt_0 : decode cX0_meetAt 0 = .ok (.aload_n 0, 1) := dk_42 (dk_at dksX0_meetAt_0 0 rfl rfl)
theorem dX0_meetAt_1 : decode cX0_meetAt 1 = .ok (.iload_n 1, 1) := dk_27 (dk_at dksX0_meetAt_0 1 rfl rfl)
theorem dX0_meetAt_2 : decode cX0_meetAt 2 = .ok (.iload_n 2, 1) := dk_28 (dk_at dksX0_meetAt_0 2 rfl rfl)
theorem dX0_meetAt_3 : decode cX0_meetAt 3 = .ok (.invokevirtual 337, 3) := dk_182 1 81 (dk_at dksX0_meetAt_0 3 rfl rfl)
theorem dX0_meetAt_6 : decode cX0_meetAt 6 = .ok (.ifCond .ne 6, 3) := dk_154 0 6 (dk_at dksX0_meetAt_0 6 rfl rfl)
theorem dX0_meetAt_9 : decode cX0_meetAt 9 = .ok (.bipush (-2), 2) := dk_16 254 (dk_at dksX0_meetAt_0 9 rfl rfl)
theorem dX0_meetAt_11 : decode cX0_meetAt 11 = .ok (.ireturn, 1) := dk_172 (dk_at dksX0_meetAt_0 11 rfl rfl)
theorem dX0_meetAt_12 : decode cX0_meetAt 12 = .ok (.aload_n 0, 1) := dk_42 (dk_at dksX0_meetAt_0 12 rfl rfl)
theorem dX0_meetAt_13 : decode cX0_meetAt 13 = .ok (.iload_n 1, 1) := dk_27 (dk_at dksX0_meetAt_0 13 rfl rfl)
theorem dX0_meetAt_14 : decode cX0_meetAt 14 = .ok (.iload_n 2, 1) := dk_28 (dk_at dksX0_meetAt_0 14 rfl rfl)
theorem dX0_meetAt_15 : decode cX0_meetAt 15 = .ok (.invokevirtual 340, 3) := dk_182 1 84 (dk_at dksX0_meetAt_0 15 rfl rfl)
theorem dX0_meetAt_18 : decode cX0_meetAt 18 = .ok (.iconst (-1), 1) := dk_2 (dk_at dksX0_meetAt_0 18 rfl rfl)
theorem dX0_meetAt_19 : decode cX0_meetAt 19 = .ok (.if_icmp .ne 7, 3) := dk_160 0 7 (dk_at dksX0_meetAt_0 19 rfl rfl)
theorem dX0_meetAt_22 : decode cX0_meetAt 22 = .ok (.iconst (-1), 1) := dk_2 (dk_at dksX0_meetAt_0 22 rfl rfl)
theorem dX0_meetAt_23 : decode cX0_meetAt 23 = .ok (.goto 10, 3) := dk_167 0 10 (dk_at dksX0_meetAt_1 0 rfl rfl)
theorem dX0_meetAt_26 : decode cX0_meetAt 26 = .ok (.aload_n 0, 1) := dk_42 (dk_at dksX0_meetAt_1 3 rfl rfl)
theorem dX0_meetAt_27 : decode cX0_meetAt 27 = .ok (.getfield 334, 3) := dk_180 1 78 (dk_at dksX0_meetAt_1 4 rfl rfl)
theorem dX0_meetAt_30 : decode cX0_meetAt 30 = .ok (.invokestatic 343, 3) := dk_184 1 87 (dk_at dksX0_meetAt_1 7 rfl rfl)
theorem dX0_meetAt_33 : decode cX0_meetAt 33 = .ok (.ireturn, 1) := dk_172 (dk_at dksX0_meetAt_1 10 rfl rfl)
def dkwX0_inTime_0 : List UInt8 := [42, 182, 1, 50, 42, 182, 1, 95, 172]
abbrev dktX0_inTime_0 : List UInt8 := dkwX0_inTime_0 ++ []
theorem dksX0_inTime_0 : cX0_inTime.data.toList.drop 0 = dktX0_inTime_0 := by decide +kernel
theorem dX0_inTime_0 : decode cX0_inTime 0 = .ok (.aload_n 0, 1) := dk_42 (dk_at dksX0_inTime_0 0 rfl rfl)
theorem dX0_inTime_1 : decode cX0_inTime 1 = .ok (.invokevirtual 306, 3) := dk_182 1 50 (dk_at dksX0_inTime_0 1 rfl rfl)
theorem dX0_inTime_4 : decode cX0_inTime 4 = .ok (.aload_n 0, 1) := dk_42 (dk_at dksX0_inTime_0 4 rfl rfl)
theorem dX0_inTime_5 : decode cX0_inTime 5 = .ok (.invokevirtual 351, 3) := dk_182 1 95 (dk_at dksX0_inTime_0 5 rfl rfl)
theorem dX0_inTime_8 : decode cX0_inTime 8 = .ok (.ireturn, 1) := dk_172 (dk_at dksX0_inTime_0 8 rfl rfl)
def dkwX0_inTimeSet_1 : List UInt8 := [153, 0, 9, 4, 28, 120, 167, 0, 4, 3, 128, 60, 132, 2, 1, 167, 255, 223, 27, 172]
abbrev dktX0_inTimeSet_1 : List UInt8 := dkwX0_inTimeSet_1 ++ []
def dkwX0_inTimeSet_0 : List UInt8 := [3, 60, 3, 61, 28, 42, 180, 0, 17, 180, 0, 160, 162, 0, 28, 27, 42, 28, 3, 182, 1, 92]
abbrev dktX0_inTimeSet_0 : List UInt8 := dkwX0_inTimeSet_0 ++ dktX0_inTimeSet_1
theorem dksX0_inTimeSet_0 : cX0_inTimeSet.data.toList.drop 0 = dktX0_inTimeSet_0 := by decide +kernel
theorem dksX0_inTimeSet_1 : cX0_inTimeSet.data.toList.drop 22 = dktX0_inTimeSet_1 := dk_seg dksX0_inTimeSet_0 22 rfl rfl
theorem dX0_inTimeSet_0 : decode cX0_inTimeSet 0 = .ok (.iconst 0, 1) := dk_3 (dk_at dksX0_inTimeSet_0 0 rfl rfl)
theorem dX0_inTimeSet_1 : decode cX0_inTimeSet 1 = .ok (.istore_n 1, 1) := dk_60 (dk_at dksX0_inTimeSet_0 1 rfl rfl)
theorem dX0_inTimeSet_2 : decode cX0_inTimeSet 2 = .ok (.iconst 0, 1) := dk_3 (dk_at dksX0_inTimeSet_0 2 rfl rfl)
theorem dX0_inTimeSet_3 : decode cX0_inTimeSet 3 = .ok (.istore_n 2, 1) := dk_61 (dk_at dksX0_inTimeSet_0 3 rfl rfl)
theorem dX0_inTimeSet_4 : decode cX0_inTimeSet 4 = .ok (.iload_n 2, 1) := dk_28 (dk_at dksX0_inTimeSet_0 4 rfl rfl)
theorem dX0_inTimeSet_5 : decode cX0_inTimeSet 5 = .ok (.aload_n 0, 1) := dk_42 (dk_at dksX0_inTimeSet_0 5 rfl rfl)
theorem dX0_inTimeSet_6 : decode cX0_inTimeSet 6 = .ok (.getfield 17, 3) := dk_180 0 17 (dk_at dksX0_inTimeSet_0 6 rfl rfl)
theorem dX0_inTimeSet_9 : decode cX0_inTimeSet 9 = .ok (.getfield 160, 3) := dk_180 0 160 (dk_at dksX0_inTimeSet_0 9 rfl rfl)
theorem dX0_inTimeSet_12 : decode cX0_inTimeSet 12 = .ok (.if_icmp .ge 28, 3) := dk_162 0 28 (dk_at dksX0_inTimeSet_0 12 rfl rfl)
theorem dX0_inTimeSet_15 : decode cX0_inTimeSet 15 = .ok (.iload_n 1, 1) := dk_27 (dk_at dksX0_inTimeSet_0 15 rfl rfl)
theorem dX0_inTimeSet_16 : decode cX0_inTimeSet 16 = .ok (.aload_n 0, 1) := dk_42 (dk_at dksX0_inTimeSet_0 16 rfl rfl)
theorem dX0_inTimeSet_17 : decode cX0_inTimeSet 17 = .ok (.iload_n 2, 1) := dk_28 (dk_at dksX0_inTimeSet_0 17 rfl rfl)
theorem dX0_inTimeSet_18 : decode cX0_inTimeSet 18 = .ok (.iconst 0, 1) := dk_3 (dk_at dksX0_inTimeSet_0 18 rfl rfl)
theorem dX0_inTimeSet_19 : decode cX0_inTimeSet 19 = .ok (.invokevirtual 348, 3) := dk_182 1 92 (dk_at dksX0_inTimeSet_0 19 rfl rfl)
theorem dX0_inTimeSet_22 : decode cX0_inTimeSet 22 = .ok (.ifCond .eq 9, 3) := dk_153 0 9 (dk_at dksX0_inTimeSet_1 0 rfl rfl)
theorem dX0_inTimeSet_25 : decode cX0_inTimeSet 25 = .ok (.iconst 1, 1) := dk_4 (dk_at dksX0_inTimeSet_1 3 rfl rfl)
theorem dX0_inTimeSet_26 : decode cX0_inTimeSet 26 = .ok (.iload_n 2, 1) := dk_28 (dk_at dksX0_inTimeSet_1 4 rfl rfl)
theorem dX0_inTimeSet_27 : decode cX0_inTimeSet 27 = .ok (.ishl, 1) := dk_120 (dk_at dksX0_inTimeSet_1 5 rfl rfl)
theorem dX0_inTimeSet_28 : decode cX0_inTimeSet 28 = .ok (.goto 4, 3) := dk_167 0 4 (dk_at dksX0_inTimeSet_1 6 rfl rfl)
theorem dX0_inTimeSet_31 : decode cX0_inTimeSet 31 = .ok (.iconst 0, 1) := dk_3 (dk_at dksX0_inTimeSet_1 9 rfl rfl)
theorem dX0_inTimeSet_32 : decode cX0_inTimeSet 32 = .ok (.ior, 1) := dk_128 (dk_at dksX0_inTimeSet_1 10 rfl rfl)
theorem dX0_inTimeSet_33 : decode cX0_inTimeSet 33 = .ok (.istore_n 1, 1) := dk_60 (dk_at dksX0_inTimeSet_1 11 rfl rfl)
theorem dX0_inTimeSet_34 : decode cX0_inTimeSet 34 = .ok (.iinc 2 1, 3) := dk_132 2 1 (dk_at dksX0_inTimeSet_1 12 rfl rfl)
theorem dX0_inTimeSet_37 : decode cX0_inTimeSet 37 = .ok (.goto (-33), 3) := dk_167 255 223 (dk_at dksX0_inTimeSet_1 15 rfl rfl)
theorem dX0_inTimeSet_40 : decode cX0_inTimeSet 40 = .ok (.iload_n 1, 1) := dk_27 (dk_at dksX0_inTimeSet_1 18 rfl rfl)
theorem dX0_inTimeSet_41 : decode cX0_inTimeSet 41 = .ok (.ireturn, 1) := dk_172 (dk_at dksX0_inTimeSet_1 19 rfl rfl)
def dkwX0_isInTime_3 : List UInt8 := [159, 0, 7, 4, 167, 0, 4, 3, 172]
abbrev dktX0_isInTime_3 : List UInt8 := dkwX0_isInTime_3 ++ []
def dkwX0_isInTime_2 : List UInt8 := [180, 0, 17, 180, 0, 182, 27, 46, 42, 180, 0, 60, 180, 1, 4, 100, 184, 0, 206, 182, 1, 53, 2]
abbrev dktX0_isInTime_2 : List UInt8 := dkwX0_isInTime_2 ++ dktX0_isInTime_3
def dkwX0_isInTime_1 : List UInt8 := [184, 0, 188, 154, 0, 46, 42, 27, 42, 180, 0, 17, 180, 0, 179, 27, 46, 28, 16, 60, 28, 96, 42]
abbrev dktX0_isInTime_1 : List UInt8 := dkwX0_isInTime_1 ++ dktX0_isInTime_2
def dkwX0_isInTime_0 : List UInt8 := [42, 180, 0, 17, 180, 0, 179, 27, 46, 2, 160, 0, 5, 3, 172, 42, 180, 0, 60, 180, 0, 185, 27]
abbrev dktX0_isInTime_0 : List UInt8 := dkwX0_isInTime_0 ++ dktX0_isInTime_1
theorem dksX0_isInTime_0 : cX0_isInTime.data.toList.drop 0 = dktX0_isInTime_0 := by decide +kernel
theorem dksX0_isInTime_1 : cX0_isInTime.data.toList.drop 23 = dktX0_isInTime_1 := dk_seg dksX0_isInTime_0 23 rfl rfl
theorem dksX0_isInTime_2 : cX0_isInTime.data.toList.drop 46 = dktX0_isInTime_2 := dk_seg dksX0_isInTime_1 23 rfl rfl
theorem dksX0_isInTime_3 : cX0_isInTime.data.toList.drop 69 = dktX0_isInTime_3 := dk_seg dksX0_isInTime_2 23 rfl rfl
theorem dX0_isInTime_0 : decode cX0_isInTime 0 = .ok (.aload_n 0, 1) := dk_42 (dk_at dksX0_isInTime_0 0 rfl rfl)
theorem dX0_isInTime_1 : decode cX0_isInTime 1 = .ok (.getfield 17, 3) := dk_180 0 17 (dk_at dksX0_isInTime_0 1 rfl rfl)
theorem dX0_isInTime_4 : decode cX0_isInTime 4 = .ok (.getfield 179, 3) := dk_180 0 179 (dk_at dksX0_isInTime_0 4 rfl rfl)
theorem dX0_isInTime_7 : decode cX0_isInTime 7 = .ok (.iload_n 1, 1) := dk_27 (dk_at dksX0_isInTime_0 7 rfl rfl)
theorem dX0_isInTime_8 : decode cX0_isInTime 8 = .ok (.iaload, 1) := dk_46 (dk_at dksX0_isInTime_0 8 rfl rfl)
theorem dX0_isInTime_9 : decode cX0_isInTime 9 = .ok (.iconst (-1), 1) := dk_2 (dk_at dksX0_isInTime_0 9 rfl rfl)
theorem dX0_isInTime_10 : decode cX0_isInTime 10 = .ok (.if_icmp .ne 5, 3) := dk_160 0 5 (dk_at dksX0_isInTime_0 10 rfl rfl)
theorem dX0_isInTime_13 : decode cX0_isInTime 13 = .ok (.iconst 0, 1) := dk_3 (dk_at dksX0_isInTime_0 13 rfl rfl)
theorem dX0_isInTime_14 : decode cX0_isInTime 14 = .ok (.ireturn, 1) := dk_172 (dk_at dksX0_isInTime_0 14 rfl rfl)
theorem dX0_isInTime_15 : decode cX0_isInTime 15 = .ok (.aload_n 0, 1) := dk_42 (dk_at dksX0_isInTime_0 15 rfl rfl)
theorem dX0_isInTime_16 : decode cX0_isInTime 16 = .ok (.getfield 60, 3) := dk_180 0 60 (dk_at dksX0_isInTime_0 16 rfl rfl)
theorem dX0_isInTime_19 : decode cX0_isInTime 19 = .ok (.getfield 185, 3) := dk_180 0 185 (dk_at dksX0_isInTime_0 19 rfl rfl)
theorem dX0_isInTime_22 : decode cX0_isInTime 22 = .ok (.iload_n 1, 1) := dk_27 (dk_at dksX0_isInTime_0 22 rfl rfl)
theorem dX0_isInTime_23 : decode cX0_isInTime 23 = .ok (.invokestatic 188, 3) := dk_184 0 188 (dk_at dksX0_isInTime_1 0 rfl rfl)
theorem dX0_isInTime_26 : decode cX0_isInTime 26 = .ok (.ifCond .ne 46, 3) := dk_154 0 46 (dk_at dksX0_isInTime_1 3 rfl rfl)
theorem dX0_isInTime_29 : decode cX0_isInTime 29 = .ok (.aload_n 0, 1) := dk_42 (dk_at dksX0_isInTime_1 6 rfl rfl)
theorem dX0_isInTime_30 : decode cX0_isInTime 30 = .ok (.iload_n 1, 1) := dk_27 (dk_at dksX0_isInTime_1 7 rfl rfl)
theorem dX0_isInTime_31 : decode cX0_isInTime 31 = .ok (.aload_n 0, 1) := dk_42 (dk_at dksX0_isInTime_1 8 rfl rfl)
theorem dX0_isInTime_32 : decode cX0_isInTime 32 = .ok (.getfield 17, 3) := dk_180 0 17 (dk_at dksX0_isInTime_1 9 rfl rfl)
theorem dX0_isInTime_35 : decode cX0_isInTime 35 = .ok (.getfield 179, 3) := dk_180 0 179 (dk_at dksX0_isInTime_1 12 rfl rfl)
theorem dX0_isInTime_38 : decode cX0_isInTime 38 = .ok (.iload_n 1, 1) := dk_27 (dk_at dksX0_isInTime_1 15 rfl rfl)
theorem dX0_isInTime_39 : decode cX0_isInTime 39 = .ok (.iaload, 1) := dk_46 (dk_at dksX0_isInTime_1 16 rfl rfl)
theorem dX0_isInTime_40 : decode cX0_isInTime 40 = .ok (.iload_n 2, 1) := dk_28 (dk_at dksX0_isInTime_1 17 rfl rfl)
theorem dX0_isInTime_41 : decode cX0_isInTime 41 = .ok (.bipush 60, 2) := dk_16 60 (dk_at dksX0_isInTime_1 18 rfl rfl)
theorem dX0_isInTime_43 : decode cX0_isInTime 43 = .ok (.iload_n 2, 1) := dk_28 (dk_at dksX0_isInTime_1 20 rfl rfl)
theorem dX0_isInTime_44 : decode cX0_isInTime 44 = .ok (.iadd, 1) := dk_96 (dk_at dksX0_isInTime_1 21 rfl rfl)
theorem dX0_isInTime_45 : decode cX0_isInTime 45 = .ok (.aload_n 0, 1) := dk_42 (dk_at dksX0_isInTime_1 22 rfl rfl)
theorem dX0_isInTime_46 : decode cX0_isInTime 46 = .ok (.getfield 17, 3) := dk_180 0 17 (dk_at dksX0_isInTime_2 0 rfl rfl)
theorem dX0_isInTime_49 : decode cX0_isInTime 49 = .ok (.getfield 182, 3) := dk_180 0 182 (dk_at dksX0_isInTime_2 3 rfl rfl)
theorem dX0_isInTime_52 : decode cX0_isInTime 52 = .ok (.iload_n 1, 1) := dk_27 (dk_at dksX0_isInTime_2 6 rfl rfl)
theorem dX0_isInTime_53 : decode cX0_isInTime 53 = .ok (.iaload, 1) := dk_46 (dk_at dksX0_isInTime_2 7 rfl rfl)
theorem dX0_isInTime_54 : decode cX0_isInTime 54 = .ok (.aload_n 0, 1) := dk_42 (dk_at dksX0_isInTime_2 8 rfl rfl)
theorem dX0_isInTime_55 : decode cX0_isInTime 55 = .ok (.getfield 60, 3) := dk_180 0 60 (dk_at dksX0_isInTime_2 9 rfl rfl)
theorem dX0_isInTime_58 : decode cX0_isInTime 58 = .ok (.getfield 260, 3) := dk_180 1 4 (dk_at dksX0_isInTime_2 12 rfl rfl)
theorem dX0_isInTime_61 : decode cX0_isInTime 61 = .ok (.isub, 1) := dk_100 (dk_at dksX0_isInTime_2 15 rfl rfl)
theorem dX0_isInTime_62 : decode cX0_isInTime 62 = .ok (.invokestatic 206, 3) := dk_184 0 206 (dk_at dksX0_isInTime_2 16 rfl rfl)
theorem dX0_isInTime_65 : decode cX0_isInTime 65 = .ok (.invokevirtual 309, 3) := dk_182 1 53 (dk_at dksX0_isInTime_2 19 rfl rfl)
theorem dX0_isInTime_68 : decode cX0_isInTime 68 = .ok (.iconst (-1), 1) := dk_2 (dk_at dksX0_isInTime_2 22 rfl rfl)
theorem dX0_isInTime_69 : decode cX0_isInTime 69 = .ok (.if_icmp .eq 7, 3) := dk_159 0 7 (dk_at dksX0_isInTime_3 0 rfl rfl)
theorem dX0_isInTime_72 : decode cX0_isInTime 72 = .ok (.iconst 1, 1) := dk_4 (dk_at dksX0_isInTime_3 3 rfl rfl)
theorem dX0_isInTime_73 : decode cX0_isInTime 73 = .ok (.goto 4, 3) := dk_167 0 4 (dk_at dksX0_isInTime_3 4 rfl rfl)
theorem dX0_isInTime_76 : decode cX0_isInTime 76 = .ok (.iconst 0, 1) := dk_3 (dk_at dksX0_isInTime_3 7 rfl rfl)
theorem dX0_isInTime_77 : decode cX0_isInTime 77 = .ok (.ireturn, 1) := dk_172 (dk_at dksX0_isInTime_3 8 rfl rfl)
def dkwX0_spare_3 : List UInt8 := [2, 172]
abbrev dktX0_spare_3 : List UInt8 := dkwX0_spare_3 ++ []
def dkwX0_spare_2 : List UInt8 := [16, 60, 61, 28, 155, 0, 20, 42, 27, 28, 182, 1, 92, 153, 0, 5, 28, 172, 132, 2, 255, 167, 255, 238]
abbrev dktX0_spare_2 : List UInt8 := dkwX0_spare_2 ++ dktX0_spare_3
def dkwX0_spare_1 : List UInt8 := [16, 251, 172, 42, 182, 1, 50, 42, 180, 0, 60, 180, 0, 185, 27, 184, 0, 188, 153, 0, 6, 16, 60, 172]
abbrev dktX0_spare_1 : List UInt8 := dkwX0_spare_1 ++ dktX0_spare_2
def dkwX0_spare_0 : List UInt8 := [42, 27, 182, 0, 169, 154, 0, 6, 16, 254, 172, 42, 180, 0, 17, 180, 0, 179, 27, 46, 2, 160, 0, 6]
abbrev dktX0_spare_0 : List UInt8 := dkwX0_spare_0 ++ dktX0_spare_1
theorem dksX0_spare_0 : cX0_spare.data.toList.drop 0 = dktX0_spare_0 := by decide +kernel
theorem dksX0_spare_1 : cX0_spare.data.toList.drop 24 = dktX0_spare_1 := dk_seg dksX0_spare_0 24 rfl rfl
theorem dksX0_spare_2 : cX0_spare.data.toList.drop 48 = dktX0_spare_2 := dk_seg dksX0_spare_1 24 rfl rfl
theorem dksX0_spare_3 : cX0_spare.data.toList.drop 72 = dktX0_spare_3 := dk_seg dksX0_spare_2 24 rfl rfl
theorem dX0_spare_0 : decode cX0_spare 0 = .ok (.aload_n 0, 1) := dk_42 (dk_at dksX0_spare_0 0 rfl rfl)
theorem dX0_spare_1 : decode cX0_spare 1 = .ok (.iload_n 1, 1) := dk_27 (dk_at dksX0_spare_0 1 rfl rfl)
theorem dX0_spare_2 : decode cX0_spare 2 = .ok (.invokevirtual 169, 3) := dk_182 0 169 (dk_at dksX0_spare_0 2 rfl rfl)
theorem dX0_spare_5 : decode cX0_spare 5 = .ok (.ifCond .ne 6, 3) := dk_154 0 6 (dk_at dksX0_spare_0 5 rfl rfl)
theorem dX0_spare_8 : decode cX0_spare 8 = .ok (.bipush (-2), 2) := dk_16 254 (dk_at dksX0_spare_0 8 rfl rfl)
theorem dX0_spare_10 : decode cX0_spare 10 = .ok (.ireturn, 1) := dk_172 (dk_at dksX0_spare_0 10 rfl rfl)
theorem dX0_spare_11 : decode cX0_spare 11 = .ok (.aload_n 0, 1) := dk_42 (dk_at dksX0_spare_0 11 rfl rfl)
theorem dX0_spare_12 : decode cX0_spare 12 = .ok (.getfield 17, 3) := dk_180 0 17 (dk_at dksX0_spare_0 12 rfl rfl)
theorem dX0_spare_15 : decode cX0_spare 15 = .ok (.getfield 179, 3) := dk_180 0 179 (dk_at dksX0_spare_0 15 rfl rfl)
theorem dX0_spare_18 : decode cX0_spare 18 = .ok (.iload_n 1, 1) := dk_27 (dk_at dksX0_spare_0 18 rfl rfl)
theorem dX0_spare_19 : decode cX0_spare 19 = .ok (.iaload, 1) := dk_46 (dk_at dksX0_spare_0 19 rfl rfl)
theorem dX0_spare_20 : decode cX0_spare 20 = .ok (.iconst (-1), 1) := dk_2 (dk_at dksX0_spare_0 20 rfl rfl)
theorem dX0_spare_21 : decode cX0_spare 21 = .ok (.if_icmp .ne 6, 3) := dk_160 0 6 (dk_at dksX0_spare_0 21 rfl rfl)
theorem dX0_spare_24 : decode cX0_spare 24 = .ok (.bipush (-5), 2) := dk_16 251 (dk_at dksX0_spare_1 0 rfl rfl)
theorem dX0_spare_26 : decode cX0_spare 26 = .ok (.ireturn, 1) := dk_172 (dk_at dksX0_spare_1 2 rfl rfl)
theorem dX0_spare_27 : decode cX0_spare 27 = .ok (.aload_n 0, 1) := dk_42 (dk_at dksX0_spare_1 3 rfl rfl)
theorem dX0_spare_28 : decode cX0_spare 28 = .ok (.invokevirtual 306, 3) := dk_182 1 50 (dk_at dksX0_spare_1 4 rfl rfl)
theorem dX0_spare_31 : decode cX0_spare 31 = .ok (.aload_n 0, 1) := dk_42 (dk_at dksX0_spare_1 7 rfl rfl)
theorem dX0_spare_32 : decode cX0_spare 32 = .ok (.getfield 60, 3) := dk_180 0 60 (dk_at dksX0_spare_1 8 rfl rfl)
theorem dX0_spare_35 : decode cX0_spare 35 = .ok (.getfield 185, 3) := dk_180 0 185 (dk_at dksX0_spare_1 11 rfl rfl)
theorem dX0_spare_38 : decode cX0_spare 38 = .ok (.iload_n 1, 1) := dk_27 (dk_at dksX0_spare_1 14 rfl rfl)
theorem dX0_spare_39 : decode cX0_spare 39 = .ok (.invokestatic 188, 3) := dk_184 0 188 (dk_at dksX0_spare_1 15 rfl rfl)
theorem dX0_spare_42 : decode cX0_spare 42 = .ok (.ifCond .eq 6, 3) := dk_153 0 6 (dk_at dksX0_spare_1 18 rfl rfl)
theorem dX0_spare_45 : decode cX0_spare 45 = .ok (.bipush 60, 2) := dk_16 60 (dk_at dksX0_spare_1 21 rfl rfl)
theorem dX0_spare_47 : decode cX0_spare 47 = .ok (.ireturn, 1) := dk_172 (dk_at dksX0_spare_1 23 rfl rfl)
theorem dX0_spare_48 : decode cX0_spare 48 = .ok (.bipush 60, 2) := dk_16 60 (dk_at dksX0_spare_2 0 rfl rfl)
theorem dX0_spare_50 : decode cX0_spare 50 = .ok (.istore_n 2, 1) := dk_61 (dk_at dksX0_spare_2 2 rfl rfl)
theorem dX0_spare_51 : decode cX0_spare 51 = .ok (.iload_n 2, 1) := dk_28 (dk_at dksX0_spare_2 3 rfl rfl)
theorem dX0_spare_52 : decode cX0_spare 52 = .ok (.ifCond .lt 20, 3) := dk_155 0 20 (dk_at dksX0_spare_2 4 rfl rfl)
theorem dX0_spare_55 : decode cX0_spare 55 = .ok (.aload_n 0, 1) := dk_42 (dk_at dksX0_spare_2 7 rfl rfl)
theorem dX0_spare_56 : decode cX0_spare 56 = .ok (.iload_n 1, 1) := dk_27 (dk_at dksX0_spare_2 8 rfl rfl)
theorem dX0_spare_57 : decode cX0_spare 57 = .ok (.iload_n 2, 1) := dk_28 (dk_at dksX0_spare_2 9 rfl rfl)
theorem dX0_spare_58 : decode cX0_spare 58 = .ok (.invokevirtual 348, 3) := dk_182 1 92 (dk_at dksX0_spare_2 10 rfl rfl)
theorem dX0_spare_61 : decode cX0_spare 61 = .ok (.ifCond .eq 5, 3) := dk_153 0 5 (dk_at dksX0_spare_2 13 rfl rfl)
theorem dX0_spare_64 : decode cX0_spare 64 = .ok (.iload_n 2, 1) := dk_28 (dk_at dksX0_spare_2 16 rfl rfl)
theorem dX0_spare_65 : decode cX0_spare 65 = .ok (.ireturn, 1) := dk_172 (dk_at dksX0_spare_2 17 rfl rfl)
theorem dX0_spare_66 : decode cX0_spare 66 = .ok (.iinc 2 (-1), 3) := dk_132 2 255 (dk_at dksX0_spare_2 18 rfl rfl)
theorem dX0_spare_69 : decode cX0_spare 69 = .ok (.goto (-18), 3) := dk_167 255 238 (dk_at dksX0_spare_2 21 rfl rfl)
theorem dX0_spare_72 : decode cX0_spare 72 = .ok (.iconst (-1), 1) := dk_2 (dk_at dksX0_spare_3 0 rfl rfl)
theorem dX0_spare_73 : decode cX0_spare 73 = .ok (.ireturn, 1) := dk_172 (dk_at dksX0_spare_3 1 rfl rfl)
def dkwX0_needs_4 : List UInt8 := [21, 4, 79, 132, 3, 1, 167, 255, 200, 28, 172]
abbrev dktX0_needs_4 : List UInt8 := dkwX0_needs_4 ++ []
def dkwX0_needs_3 : List UInt8 := [28, 42, 27, 3, 182, 1, 92, 153, 0, 7, 3, 167, 0, 6, 4, 29, 120, 128, 61, 42, 180, 0, 86, 29]
abbrev dktX0_needs_3 : List UInt8 := dkwX0_needs_3 ++ dktX0_needs_4
def dkwX0_needs_2 : List UInt8 := [180, 0, 17, 180, 0, 217, 162, 0, 51, 42, 180, 0, 86, 29, 46, 54, 4, 42, 180, 0, 86, 29, 2, 79]
abbrev dktX0_needs_2 : List UInt8 := dkwX0_needs_2 ++ dktX0_needs_3
def dkwX0_needs_1 : List UInt8 := [16, 251, 172, 42, 182, 1, 50, 42, 27, 3, 182, 1, 92, 154, 0, 5, 2, 172, 3, 61, 3, 62, 29, 42]
abbrev dktX0_needs_1 : List UInt8 := dkwX0_needs_1 ++ dktX0_needs_2
def dkwX0_needs_0 : List UInt8 := [42, 27, 182, 0, 169, 154, 0, 6, 16, 254, 172, 42, 180, 0, 17, 180, 0, 179, 27, 46, 2, 160, 0, 6]
abbrev dktX0_needs_0 : List UInt8 := dkwX0_needs_0 ++ dktX0_needs_1
theorem dksX0_needs_0 : cX0_needs.data.toList.drop 0 = dktX0_needs_0 := by decide +kernel
theorem dksX0_needs_1 : cX0_needs.data.toList.drop 24 = dktX0_needs_1 := dk_seg dksX0_needs_0 24 rfl rfl
theorem dksX0_needs_2 : cX0_needs.data.toList.drop 48 = dktX0_needs_2 := dk_seg dksX0_needs_1 24 rfl rfl
theorem dksX0_needs_3 : cX0_needs.data.toList.drop 72 = dktX0_needs_3 := dk_seg dksX0_needs_2 24 rfl rfl
theorem dksX0_needs_4 : cX0_needs.data.toList.drop 96 = dktX0_needs_4 := dk_seg dksX0_needs_3 24 rfl rfl
theorem dX0_needs_0 : decode cX0_needs 0 = .ok (.aload_n 0, 1) := dk_42 (dk_at dksX0_needs_0 0 rfl rfl)
theorem dX0_needs_1 : decode cX0_needs 1 = .ok (.iload_n 1, 1) := dk_27 (dk_at dksX0_needs_0 1 rfl rfl)
theorem dX0_needs_2 : decode cX0_needs 2 = .ok (.invokevirtual 169, 3) := dk_182 0 169 (dk_at dksX0_needs_0 2 rfl rfl)
theorem dX0_needs_5 : decode cX0_needs 5 = .ok (.ifCond .ne 6, 3) := dk_154 0 6 (dk_at dksX0_needs_0 5 rfl rfl)
theorem dX0_needs_8 : decode cX0_needs 8 = .ok (.bipush (-2), 2) := dk_16 254 (dk_at dksX0_needs_0 8 rfl rfl)
theorem dX0_needs_10 : decode cX0_needs 10 = .ok (.ireturn, 1) := dk_172 (dk_at dksX0_needs_0 10 rfl rfl)
theorem dX0_needs_11 : decode cX0_needs 11 = .ok (.aload_n 0, 1) := dk_42 (dk_at dksX0_needs_0 11 rfl rfl)
theorem dX0_needs_12 : decode cX0_needs 12 = .ok (.getfield 17, 3) := dk_180 0 17 (dk_at dksX0_needs_0 12 rfl rfl)
theorem dX0_needs_15 : decode cX0_needs 15 = .ok (.getfield 179, 3) := dk_180 0 179 (dk_at dksX0_needs_0 15 rfl rfl)
theorem dX0_needs_18 : decode cX0_needs 18 = .ok (.iload_n 1, 1) := dk_27 (dk_at dksX0_needs_0 18 rfl rfl)
theorem dX0_needs_19 : decode cX0_needs 19 = .ok (.iaload, 1) := dk_46 (dk_at dksX0_needs_0 19 rfl rfl)
theorem dX0_needs_20 : decode cX0_needs 20 = .ok (.iconst (-1), 1) := dk_2 (dk_at dksX0_needs_0 20 rfl rfl)
theorem dX0_needs_21 : decode cX0_needs 21 = .ok (.if_icmp .ne 6, 3) := dk_160 0 6 (dk_at dksX0_needs_0 21 rfl rfl)
theorem dX0_needs_24 : decode cX0_needs 24 = .ok (.bipush (-5), 2) := dk_16 251 (dk_at dksX0_needs_1 0 rfl rfl)
theorem dX0_needs_26 : decode cX0_needs 26 = .ok (.ireturn, 1) := dk_172 (dk_at dksX0_needs_1 2 rfl rfl)
theorem dX0_needs_27 : decode cX0_needs 27 = .ok (.aload_n 0, 1) := dk_42 (dk_at dksX0_needs_1 3 rfl rfl)
theorem dX0_needs_28 : decode cX0_needs 28 = .ok (.invokevirtual 306, 3) := dk_182 1 50 (dk_at dksX0_needs_1 4 rfl rfl)
theorem dX0_needs_31 : decode cX0_needs 31 = .ok (.aload_n 0, 1) := dk_42 (dk_at dksX0_needs_1 7 rfl rfl)
theorem dX0_needs_32 : decode cX0_needs 32 = .ok (.iload_n 1, 1) := dk_27 (dk_at dksX0_needs_1 8 rfl rfl)
theorem dX0_needs_33 : decode cX0_needs 33 = .ok (.iconst 0, 1) := dk_3 (dk_at dksX0_needs_1 9 rfl rfl)
theorem dX0_needs_34 : decode cX0_needs 34 = .ok (.invokevirtual 348, 3) := dk_182 1 92 (dk_at dksX0_needs_1 10 rfl rfl)
theorem dX0_needs_37 : decode cX0_needs 37 = .ok (.ifCond .ne 5, 3) := dk_154 0 5 (dk_at dksX0_needs_1 13 rfl rfl)
theorem dX0_needs_40 : decode cX0_needs 40 = .ok (.iconst (-1), 1) := dk_2 (dk_at dksX0_needs_1 16 rfl rfl)
theorem dX0_needs_41 : decode cX0_needs 41 = .ok (.ireturn, 1) := dk_172 (dk_at dksX0_needs_1 17 rfl rfl)
theorem dX0_needs_42 : decode cX0_needs 42 = .ok (.iconst 0, 1) := dk_3 (dk_at dksX0_needs_1 18 rfl rfl)
theorem dX0_needs_43 : decode cX0_needs 43 = .ok (.istore_n 2, 1) := dk_61 (dk_at dksX0_needs_1 19 rfl rfl)
theorem dX0_needs_44 : decode cX0_needs 44 = .ok (.iconst 0, 1) := dk_3 (dk_at dksX0_needs_1 20 rfl rfl)
theorem dX0_needs_45 : decode cX0_needs 45 = .ok (.istore_n 3, 1) := dk_62 (dk_at dksX0_needs_1 21 rfl rfl)
theorem dX0_needs_46 : decode cX0_needs 46 = .ok (.iload_n 3, 1) := dk_29 (dk_at dksX0_needs_1 22 rfl rfl)
theorem dX0_needs_47 : decode cX0_needs 47 = .ok (.aload_n 0, 1) := dk_42 (dk_at dksX0_needs_1 23 rfl rfl)
theorem dX0_needs_48 : decode cX0_needs 48 = .ok (.getfield 17, 3) := dk_180 0 17 (dk_at dksX0_needs_2 0 rfl rfl)
theorem dX0_needs_51 : decode cX0_needs 51 = .ok (.getfield 217, 3) := dk_180 0 217 (dk_at dksX0_needs_2 3 rfl rfl)
theorem dX0_needs_54 : decode cX0_needs 54 = .ok (.if_icmp .ge 51, 3) := dk_162 0 51 (dk_at dksX0_needs_2 6 rfl rfl)
theorem dX0_needs_57 : decode cX0_needs 57 = .ok (.aload_n 0, 1) := dk_42 (dk_at dksX0_needs_2 9 rfl rfl)
theorem dX0_needs_58 : decode cX0_needs 58 = .ok (.getfield 86, 3) := dk_180 0 86 (dk_at dksX0_needs_2 10 rfl rfl)
theorem dX0_needs_61 : decode cX0_needs 61 = .ok (.iload_n 3, 1) := dk_29 (dk_at dksX0_needs_2 13 rfl rfl)
theorem dX0_needs_62 : decode cX0_needs 62 = .ok (.iaload, 1) := dk_46 (dk_at dksX0_needs_2 14 rfl rfl)
theorem dX0_needs_63 : decode cX0_needs 63 = .ok (.istore 4, 2) := dk_54 4 (dk_at dksX0_needs_2 15 rfl rfl)
theorem dX0_needs_65 : decode cX0_needs 65 = .ok (.aload_n 0, 1) := dk_42 (dk_at dksX0_needs_2 17 rfl rfl)
theorem dX0_needs_66 : decode cX0_needs 66 = .ok (.getfield 86, 3) := dk_180 0 86 (dk_at dksX0_needs_2 18 rfl rfl)
theorem dX0_needs_69 : decode cX0_needs 69 = .ok (.iload_n 3, 1) := dk_29 (dk_at dksX0_needs_2 21 rfl rfl)
theorem dX0_needs_70 : decode cX0_needs 70 = .ok (.iconst (-1), 1) := dk_2 (dk_at dksX0_needs_2 22 rfl rfl)
theorem dX0_needs_71 : decode cX0_needs 71 = .ok (.iastore, 1) := dk_79 (dk_at dksX0_needs_2 23 rfl rfl)
theorem dX0_needs_72 : decode cX0_needs 72 = .ok (.iload_n 2, 1) := dk_28 (dk_at dksX0_needs_3 0 rfl rfl)
theorem dX0_needs_73 : decode cX0_needs 73 = .ok (.aload_n 0, 1) := dk_42 (dk_at dksX0_needs_3 1 rfl rfl)
theorem dX0_needs_74 : decode cX0_needs 74 = .ok (.iload_n 1, 1) := dk_27 (dk_at dksX0_needs_3 2 rfl rfl)
theorem dX0_needs_75 : decode cX0_needs 75 = .ok (.iconst 0, 1) := dk_3 (dk_at dksX0_needs_3 3 rfl rfl)
theorem dX0_needs_76 : decode cX0_needs 76 = .ok (.invokevirtual 348, 3) := dk_182 1 92 (dk_at dksX0_needs_3 4 rfl rfl)
theorem dX0_needs_79 : decode cX0_needs 79 = .ok (.ifCond .eq 7, 3) := dk_153 0 7 (dk_at dksX0_needs_3 7 rfl rfl)
theorem dX0_needs_82 : decode cX0_needs 82 = .ok (.iconst 0, 1) := dk_3 (dk_at dksX0_needs_3 10 rfl rfl)
theorem dX0_needs_83 : decode cX0_needs 83 = .ok (.goto 6, 3) := dk_167 0 6 (dk_at dksX0_needs_3 11 rfl rfl)
theorem dX0_needs_86 : decode cX0_needs 86 = .ok (.iconst 1, 1) := dk_4 (dk_at dksX0_needs_3 14 rfl rfl)
theorem dX0_needs_87 : decode cX0_needs 87 = .ok (.iload_n 3, 1) := dk_29 (dk_at dksX0_needs_3 15 rfl rfl)
theorem dX0_needs_88 : decode cX0_needs 88 = .ok (.ishl, 1) := dk_120 (dk_at dksX0_needs_3 16 rfl rfl)
theorem dX0_needs_89 : decode cX0_needs 89 = .ok (.ior, 1) := dk_128 (dk_at dksX0_needs_3 17 rfl rfl)
theorem dX0_needs_90 : decode cX0_needs 90 = .ok (.istore_n 2, 1) := dk_61 (dk_at dksX0_needs_3 18 rfl rfl)
theorem dX0_needs_91 : decode cX0_needs 91 = .ok (.aload_n 0, 1) := dk_42 (dk_at dksX0_needs_3 19 rfl rfl)
theorem dX0_needs_92 : decode cX0_needs 92 = .ok (.getfield 86, 3) := dk_180 0 86 (dk_at dksX0_needs_3 20 rfl rfl)
theorem dX0_needs_95 : decode cX0_needs 95 = .ok (.iload_n 3, 1) := dk_29 (dk_at dksX0_needs_3 23 rfl rfl)
theorem dX0_needs_96 : decode cX0_needs 96 = .ok (.iload 4, 2) := dk_21 4 (dk_at dksX0_needs_4 0 rfl rfl)
theorem dX0_needs_98 : decode cX0_needs 98 = .ok (.iastore, 1) := dk_79 (dk_at dksX0_needs_4 2 rfl rfl)
theorem dX0_needs_99 : decode cX0_needs 99 = .ok (.iinc 3 1, 3) := dk_132 3 1 (dk_at dksX0_needs_4 3 rfl rfl)
theorem dX0_needs_102 : decode cX0_needs 102 = .ok (.goto (-56), 3) := dk_167 255 200 (dk_at dksX0_needs_4 6 rfl rfl)
theorem dX0_needs_105 : decode cX0_needs 105 = .ok (.iload_n 2, 1) := dk_28 (dk_at dksX0_needs_4 9 rfl rfl)
theorem dX0_needs_106 : decode cX0_needs 106 = .ok (.ireturn, 1) := dk_172 (dk_at dksX0_needs_4 10 rfl rfl)
def dkwX0_moves_0 : List UInt8 := [42, 182, 1, 44, 42, 182, 1, 98, 172]
abbrev dktX0_moves_0 : List UInt8 := dkwX0_moves_0 ++ []
theorem dksX0_moves_0 : cX0_moves.data.toList.drop 0 = dktX0_moves_0 := by decide +kernel
theorem dX0_moves_0 : decode cX0_moves 0 = .ok (.aload_n 0, 1) := dk_42 (dk_at dksX0_moves_0 0 rfl rfl)
theorem dX0_moves_1 : decode cX0_moves 1 = .ok (.invokevirtual 300, 3) := dk_182 1 44 (dk_at dksX0_moves_0 1 rfl rfl)
theorem dX0_moves_4 : decode cX0_moves 4 = .ok (.aload_n 0, 1) := dk_42 (dk_at dksX0_moves_0 4 rfl rfl)
theorem dX0_moves_5 : decode cX0_moves 5 = .ok (.invokevirtual 354, 3) := dk_182 1 98 (dk_at dksX0_moves_0 5 rfl rfl)
theorem dX0_moves_8 : decode cX0_moves 8 = .ok (.ireturn, 1) := dk_172 (dk_at dksX0_moves_0 8 rfl rfl)
